section
/-- a cell of a byte array: the signed byte whose unsigned value is t -/
def bc_B (x : Int32) (t : Nat) : Prop := t < 256 ∧ x &&& 255 = nI t ∧ (0 ≤ x → x = nI t) ∧ (¬ 0 ≤ x → x + 256 = nI t)
theorem bc_t : ∀ n, n < 256 → (Int8.ofNat n).toInt32 &&& 255 = nI n ∧ (0 ≤ (Int8.ofNat n).toInt32 → (Int8.ofNat n).toInt32 = nI n) ∧ (¬ 0 ≤ (Int8.ofNat n).toInt32 → (Int8.ofNat n).toInt32 + 256 = nI n) := by decide +kernel
/-- what a store into a byte array leaves there is such a cell -/
theorem bc_of (z : Int32) : ∃ t, bc_B z.toInt8.toInt32 t := by
  have e : Int8.ofNat z.toInt8.toBitVec.toNat = z.toInt8 :=
    Int8.toBitVec_inj.mp (by rw [Int8.toBitVec_ofNat', BitVec.ofNat_toNat, BitVec.setWidth_eq])
  have k := bc_t z.toInt8.toBitVec.toNat z.toInt8.toBitVec.isLt
  rw [e] at k
  exact ⟨_, z.toInt8.toBitVec.isLt, k⟩
theorem bc_0 : ∃ t, bc_B 0 t := ⟨0, by unfold bc_B; decide⟩
theorem bc_fill {s : Nat → Int32} {i : Nat} {z : Int32} (h : ∀ j, ∃ t, bc_B (s j) t) : ∀ j, ∃ t, bc_B (upd s i z.toInt8.toInt32 j) t := by
  intro j
  by_cases e : j = i
  · rw [e, pk_us]
    exact bc_of z
  · rw [pk_un e]
    exact h j
theorem bc_f {s : Nat → Int32} (h : ∀ j, ∃ t, bc_B (s j) t) : ∃ f : Nat → Nat, ∀ j, bc_B (s j) (f j) :=
  ⟨fun j => Classical.choose (h j), fun j => Classical.choose_spec (h j)⟩
theorem bc_or {a b : Nat} (ha : a < 256) (hb : b < 256) : (nI a <<< ((8 : Int32) &&& 31)) ||| nI b = nI (a * 256 + b) := by
  have h2 := Nat.shiftLeft_add_eq_or_of_lt (show b < 2 ^ 8 by omega) a
  have h3 := Nat.shiftLeft_eq a 8
  have h1 : a * 2 ^ 8 ||| b = a * 2 ^ 8 + b := by rw [← h3, h2]
  rw [pk_shlN ((8 : Int32) &&& 31) 8 (by decide) (by omega)]
  apply Int32.toBitVec_inj.mp
  apply BitVec.eq_of_toNat_eq
  rw [Int32.toBitVec_or, BitVec.toNat_or, pk_tn (by omega), pk_tn (by omega), pk_tn (by omega), h1]
/-- the sum of the first k unsigned bytes, those at even places times 256 -/
def bc_s (f : Nat → Nat) : Nat → Nat
  | 0 => 0
  | k + 1 => bc_s f k + (if k % 2 = 0 then f k * 256 else f k)
theorem bc_sE (f : Nat → Nat) {k : Nat} (h : k % 2 = 0) : bc_s f (k + 1) = bc_s f k + f k * 256 := by
  show bc_s f k + (if k % 2 = 0 then f k * 256 else f k) = _
  rw [if_pos h]
theorem bc_sO (f : Nat → Nat) {k : Nat} (h : ¬ k % 2 = 0) : bc_s f (k + 1) = bc_s f k + f k := by
  show bc_s f k + (if k % 2 = 0 then f k * 256 else f k) = _
  rw [if_neg h]
theorem bc_s2 (f : Nat → Nat) (k : Nat) : bc_s f (2 * (k + 1)) = bc_s f (2 * k) + (f (2 * k) * 256 + f (2 * k + 1)) := by
  rw [show 2 * (k + 1) = 2 * k + 1 + 1 by omega, bc_sO f (by omega), bc_sE f (by omega), Nat.add_assoc]
end
section
/-! the reference -/
theorem bc_un {post : Int32 → Prop} {x : Int32} {t : Nat} (h : bc_B x t) (H : post (nI t)) : wpX4_unsigned post () x :=
  br_c (fun z => ek_v (h.2.2.1 z) H) (fun z => ek_v (h.2.2.2 z) H)
theorem bc_tw {post : Int32 → Prop} {a : Nat → Int32} {n : Nat} {f : Nat → Nat} (hn : n ≤ 8) (ha : ∀ j, bc_B (a j) (f j)) (H : post (nI (bc_s f n))) : wpX4_sumOfPairs post (a, n) := by
  refine pk_loop (σ := Int32) (fun m i s => wX4_sumOfPairs_4 post a n m s (nI i)) (fun i s => s = nI (bc_s f i)) n 0 0 (by omega) rfl ?_ ?_
  · intro m s h
    exact pk_le n n (fun _ => ek_v h H) (fun z => absurd z (by omega))
  · intro m i s hi h hw
    refine pk_le n i (fun z => absurd z (by omega)) (fun _ => ⟨pk_in i n hi, ?_⟩)
    refine bc_un (t := f i) (by rw [nI_clamp (by omega)]; exact ha i) ⟨by decide, ?_⟩
    refine pk_eq (i % 2) 0 (fun z => ?_) (fun z => ?_) (pk_rem (d := 2) (by omega) (by omega) (by omega)) rfl (by omega) (by omega)
    · refine nm_r (pk_mul (f i) 256) (nm_r (e' := nI (bc_s f i + f i * 256)) (by rw [h]; exact nI_add _ _) (nm_r (nI_1 i) (hw _ ?_)))
      rw [bc_sE f z]
    · refine nm_r (e' := nI (bc_s f i + f i)) (by rw [h]; exact nI_add _ _) (nm_r (nI_1 i) (hw _ ?_))
      rw [bc_sO f z]
/-! the class -/
theorem bc_m0 {post : Int32 → Prop} {a : Nat → Int32} {p n : Nat} (h : n ≤ p) (hp : p ≤ 8) (H : post 0) : wpX1_more post (nI p, a, n) :=
  br_t (nI_le h (by omega)) H
theorem bc_m1 {post : Int32 → Prop} {a : Nat → Int32} {p n : Nat} (h : p < n) (hn : n ≤ 8) (H : post 1) : wpX1_more post (nI p, a, n) :=
  br_f (nI_ge h (by omega)) H
theorem bc_need {post : Unit → Prop} {a : Nat → Int32} {p n : Nat} (k : Nat) {K : Int32} (hK : K = nI k) (h : p + k ≤ n) (hn : n ≤ 8) (H : post ()) : wpX1_need post (nI p, a, n) K := by
  subst hK
  have e : nI n - nI p = nI (n - p) := pk_sub (by omega)
  have c : nI k ≤ nI n - nI p := by
    rw [e]
    exact nI_le (by omega) (by omega)
  exact br_t c H
theorem bc_u8 {post : Int32 → St3 → Prop} {a : Nat → Int32} {p n t : Nat} (h : p < n) (hn : n ≤ 8) (hb : bc_B (a p) t) (H : post (nI t) (nI (p + 1), a, n)) : wpX1_u8 post (nI p, a, n) := by
  unfold wpX1_u8
  dsimp only
  refine bc_need 1 rfl (by omega) hn (nm_r (nI_1 p) ⟨pk_in p n h, ?_⟩)
  rw [nI_clamp (by omega), hb.2.1]
  exact H
theorem bc_u16 {post : Int32 → St3 → Prop} {a : Nat → Int32} {p n t0 t1 : Nat} (h : p + 2 ≤ n) (hn : n ≤ 8) (h0 : bc_B (a p) t0) (h1 : bc_B (a (p + 1)) t1) (H : post (nI (t0 * 256 + t1)) (nI (p + 1 + 1), a, n)) : wpX1_u16 post (nI p, a, n) := by
  unfold wpX1_u16
  dsimp only
  refine bc_need 2 rfl h hn (bc_u8 (by omega) hn h0 ?_)
  dsimp only
  refine bc_u8 (by omega) hn h1 ?_
  dsimp only
  rw [bc_or h0.1 h1.1]
  exact H
theorem bc_rd {post : Int32 → St1 → Prop} {mc ms : Nat} {a : Nat → Int32} {k : Nat} {f : Nat → Nat} (hk : k ≤ 4) (ha : ∀ j, bc_B (a j) (f j)) (hc : 1 ≤ mc) (hs : 2 ≤ ms) (H : post (nI (bc_s f (2 * k))) (a, 2 * k)) : wpX3_sumOfPairs post mc ms (a, 2 * k) := by
  unfold wpX3_sumOfPairs
  dsimp only
  refine ⟨hc, hs, ?_⟩
  unfold wpX1_init
  dsimp only
  refine pk_loop (σ := Int32) (fun m i s => wX3_sumOfPairs_11 post mc ms 1 2 m s a (2 * k) (nI (2 * i))) (fun i s => s = nI (bc_s f (2 * i))) k 0 0 (by omega) rfl ?_ ?_
  · intro m s h
    show wX3_sumOfPairs_11 post mc ms 1 2 (m + 1) s a (2 * k) (nI (2 * k))
    unfold wX3_sumOfPairs_11
    refine bc_m0 (by omega) (by omega) (br_t rfl ?_)
    rw [h]
    exact H
  · intro m i s hi h hw
    show wX3_sumOfPairs_11 post mc ms 1 2 (m + 1) s a (2 * k) (nI (2 * i))
    unfold wX3_sumOfPairs_11
    refine bc_m1 (by omega) (by omega) (br_f (by decide) ?_)
    refine bc_u16 (t0 := f (2 * i)) (t1 := f (2 * i + 1)) (by omega) (by omega) (ha _) (ha _) ?_
    dsimp only
    refine nm_r (e' := nI (bc_s f (2 * i) + (f (2 * i) * 256 + f (2 * i + 1)))) (by rw [h]; exact nI_add _ _) ?_
    exact hw _ (by rw [bc_s2])
end
section
/-! the law -/
theorem bc_l22 {mc ms ks : Nat} {x0 : Int64} {k : Nat} (hk : k ≤ 4) (hc : 2 ≤ mc) (hs : ks + 2 ≤ ms) : ∃ n, wL_lawOf_22 (fun r _ => r = 1) mc ms x0 1 ks (2 * k) n 0 (fun _ => 0) := by
  refine pk_loop (fun n i s => wL_lawOf_22 (fun r _ => r = 1) mc ms x0 1 ks (2 * k) n (nI i) s) (fun _ s => ∀ j, ∃ t, bc_B (s j) t) (2 * k) 0 (fun _ => 0) (by omega) (fun _ => bc_0) ?_ ?_
  · intro n s h
    obtain ⟨f, hf⟩ := bc_f h
    refine pk_le (2 * k) (2 * k) (fun _ => ⟨1, 2, by omega, by omega, bc_rd hk hf (by omega) (by omega) ?_⟩) (fun z => absurd z (by omega))
    exact bc_tw (by omega) hf (br_t rfl rfl)
  · intro n i s hi h hw
    exact pk_le (2 * k) i (fun z => absurd z (by omega)) (fun _ => ⟨pk_in i (2 * k) hi, nm_e (nm_r (nI_1 i) (hw _ (bc_fill h)))⟩)
theorem bc_lawOf (p0 : Int64) (p1 : Int32) : wpL_lawOf (fun r _ => r = 1) 3 48 () p0 p1 := by
  unfold wpL_lawOf
  obtain ⟨j, hj, e⟩ := pk_andE p1 (m := 7) 3 (by decide)
  refine nm_r e (pk_le j 4 (fun h => ?_) (fun h => ?_))
  · have e2 : 2 * nI j = nI (2 * j) := pk_mul 2 j
    exact ⟨by rw [e2]; exact nI_pos (by omega), nm_r (e' := 2 * j) (by rw [e2]; exact nI_clamp (by omega)) ⟨by omega, by omega, by omega, bc_l22 h (by omega) (by omega)⟩⟩
  · exact ⟨by decide, nm_r (e' := 2 * 4) (by decide) ⟨by omega, by omega, by omega, bc_l22 (k := 4) (by omega) (by omega) (by omega)⟩⟩
theorem bc_cell {post : Int32 → Prop} {L : Nat} {xs : Nat → Int32} (k : Nat) {K : Int32} (hK : K = nI k) (hk : k < 3) (hL : L ≤ 3) (H : ∀ r, post r) : wpL_cellAt post L xs () K := by
  subst hK
  exact pk_le L k (fun _ => H 0) (fun z => ⟨pk_in k L z, H _⟩)
theorem i_vc (xs : Nat → Int32) (L : Nat) (hL : L ≤ 3) : wpL_law (fun r => r = 1) L xs := by
  unfold wpL_law
  exact bc_cell 0 rfl (by omega) hL (fun _ => bc_cell 1 rfl (by omega) hL (fun _ => bc_cell 2 rfl (by omega) hL (fun _ => ⟨3, 48, by omega, by omega, bc_lawOf _ _⟩)))
end
