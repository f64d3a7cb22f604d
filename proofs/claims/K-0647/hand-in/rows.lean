section
/-- rows pasted from the kit's rows to paste (pk_*) -/
theorem pk_tn {n : Nat} (h : n < 2 ^ 32) : (nI n).toBitVec.toNat = n := Nat.mod_eq_of_lt h
theorem pk_and (x : Int32) {m : Int32} (k : Nat) (hm : m.toBitVec.toNat = 2 ^ k - 1) : x &&& m = nI (x.toBitVec.toNat % 2 ^ k) := by
  apply Int32.toBitVec_inj.mp
  apply BitVec.eq_of_toNat_eq
  rw [Int32.toBitVec_and, BitVec.toNat_and, hm, Nat.and_two_pow_sub_one_eq_mod]
  show _ = (BitVec.ofNat 32 _).toNat
  rw [BitVec.toNat_ofNat]
  exact (Nat.mod_eq_of_lt (Nat.lt_of_le_of_lt (Nat.mod_le _ _) x.toBitVec.isLt)).symm
theorem pk_andN {n : Nat} (h : n < 2 ^ 32) {m : Int32} (k : Nat) (hm : m.toBitVec.toNat = 2 ^ k - 1) : nI n &&& m = nI (n % 2 ^ k) := by
  rw [pk_and _ k hm, pk_tn h]
theorem pk_shr (a s : Int32) (k : Nat) (hs : (s.toBitVec.smod 32).toNat = k) : (a >>> s).toInt = a.toInt >>> k := by
  show (a.toBitVec.sshiftRight (s.toBitVec.smod 32).toNat).toInt = _
  rw [hs, BitVec.toInt_sshiftRight]
  rfl
theorem pk_shrN {n : Nat} (h : n < 2 ^ 31) (s : Int32) (k : Nat) (hs : (s.toBitVec.smod 32).toNat = k) : nI n >>> s = nI (n / 2 ^ k) := by
  apply Int32.toInt_inj.mp
  have h2 : n / 2 ^ k ≤ n := Nat.div_le_self _ _
  rw [pk_shr _ _ k hs, nI_toInt h, nI_toInt (by omega), Int.shiftRight_eq_div_pow]
  rfl
theorem bo_8 : nI 8 = 8 := by decide +kernel
theorem bo_64 : nI 64 = 64 := by decide +kernel
theorem bo_ge8 {j : Nat} (h : j = 8) : (8 : Int32) ≤ nI j := by rw [← bo_8]; exact nI_le (by omega) (by omega)
theorem bo_lt8 {j : Nat} (h : j < 8) : ¬ (8 : Int32) ≤ nI j := by rw [← bo_8]; exact nI_ge h (by decide)
theorem bo_ge64 {j : Nat} (h : j = 64) : (64 : Int32) ≤ nI j := by rw [← bo_64]; exact nI_le (by omega) (by omega)
theorem bo_lt64 {j : Nat} (h : j < 64) : ¬ (64 : Int32) ≤ nI j := by rw [← bo_64]; exact nI_ge h (by decide)
theorem bo_and {i j : Nat} (hi : i < 8) (hj : j < 8) : nI (8 * i + j) &&& 7 = nI j := by
  rw [pk_andN (by omega) 3 (by decide)]
  exact congrArg nI (by omega)
theorem bo_shr {i j : Nat} (hi : i < 8) (hj : j < 8) : nI (8 * i + j) >>> ((3 : Int32) &&& 31) = nI i := by
  rw [pk_shrN (by omega) _ 3 (by decide)]
  exact congrArg nI (by omega)
theorem bo_cl {i : Nat} (hi : i < 8) : (nI i).toNatClampNeg = i := nI_clamp (by omega)
theorem bo_in {i : Nat} (hi : i < 8) : vp_in (nI i) 8 := vp_in_nI hi (by decide)
end
section
/-- the answer of the reference's hit(i, j) over the five arrays -/
def bo_v (a b c d e : Nat → Int32) (i j : Nat) : Int32 :=
  if e i = 0 then 0 else if e j = 0 then 0 else if b j < a i then 0 else if b i < a j then 0 else if d j < c i then 0 else if d i < c j then 0 else 1
section
variable {a b c d e : Nat → Int32}
theorem bo_v0 {i j : Nat} (h : e j = 0) : bo_v a b c d e i j = 0 := by
  unfold bo_v
  by_cases g : e i = 0
  · rw [if_pos g]
  · rw [if_neg g, if_pos h]
theorem bo_vi {i j : Nat} (h : e i = 0) : bo_v a b c d e i j = 0 := by
  unfold bo_v
  rw [if_pos h]
theorem bo_x {post : Int32 → Prop} {i j : Nat} (hi : i < 8) (hj : j < 8) (gi : ¬ e i = 0) (gj : ¬ e j = 0) (hp : post (bo_v a b c d e i j)) : wpX_overlap post (a, b, c, d, e) (nI i) (nI j) := by
  have vi := bo_in hi
  have vj := bo_in hj
  unfold bo_v at hp
  rw [if_neg gi, if_neg gj] at hp
  unfold wpX_overlap
  dsimp only
  rw [bo_cl hi, bo_cl hj]
  refine ⟨vi, vj, ?_⟩
  by_cases q1 : b j < a i
  · rw [if_pos q1] at hp; exact br_t q1 hp
  rw [if_neg q1] at hp
  refine br_f q1 ⟨vj, vi, ?_⟩
  by_cases q2 : b i < a j
  · rw [if_pos q2] at hp; exact br_t q2 hp
  rw [if_neg q2] at hp
  refine br_f q2 ⟨vi, vj, ?_⟩
  by_cases q3 : d j < c i
  · rw [if_pos q3] at hp; exact br_t q3 hp
  rw [if_neg q3] at hp
  refine br_f q3 ⟨vj, vi, ?_⟩
  by_cases q4 : d i < c j
  · rw [if_pos q4] at hp; exact br_t q4 hp
  rw [if_neg q4] at hp
  exact br_f q4 hp
theorem bo_y {post : Int32 → Prop} {i j : Nat} (hi : i < 8) (hj : j < 8) (hp : post (bo_v a b c d e i j)) : wpY_hit post (a, b, c, d, e) (nI i) (nI j) := by
  have vi := bo_in hi
  have vj := bo_in hj
  unfold bo_v at hp
  unfold wpY_hit
  dsimp only
  rw [bo_cl hi, bo_cl hj]
  refine ⟨vi, ?_⟩
  by_cases gi : e i = 0
  · rw [if_pos gi] at hp; exact br_t gi hp
  rw [if_neg gi] at hp
  refine br_f gi ⟨vj, ?_⟩
  by_cases gj : e j = 0
  · rw [if_pos gj] at hp; exact br_t gj hp
  rw [if_neg gj] at hp
  refine br_f gj ⟨vi, vj, ?_⟩
  by_cases q1 : b j < a i
  · rw [if_pos q1] at hp; exact br_t q1 hp
  rw [if_neg q1] at hp
  refine br_f q1 ⟨vj, vi, ?_⟩
  by_cases q2 : b i < a j
  · rw [if_pos q2] at hp; exact br_t q2 hp
  rw [if_neg q2] at hp
  refine br_f q2 ⟨vi, vj, ?_⟩
  by_cases q3 : d j < c i
  · rw [if_pos q3] at hp; exact br_t q3 hp
  rw [if_neg q3] at hp
  refine br_f q3 ⟨vj, vi, ?_⟩
  by_cases q4 : d i < c j
  · rw [if_pos q4] at hp; exact br_t q4 hp
  rw [if_neg q4] at hp
  exact br_f q4 hp
end
end
section
theorem bo_p78x {post : Int32 → SX → Prop} {x1 x6 x7 x8 x9 z : Int32} {a b c d e : Nat → Int32} (hi : vp_in x1 8) (hp : post z (upd a x1.toNatClampNeg (vp_nar .short x6), upd b x1.toNatClampNeg (vp_nar .short x7), upd c x1.toNatClampNeg (vp_nar .short x8), upd d x1.toNatClampNeg (vp_nar .short x9), upd e x1.toNatClampNeg (vp_nar .boolean 1))) : wX_place_78 post x1 x6 x7 x8 x9 z a b c d e := by
  unfold wX_place_78
  exact ⟨hi, nm_e ⟨hi, nm_e ⟨hi, nm_e ⟨hi, nm_e ⟨hi, nm_e hp⟩⟩⟩⟩⟩
theorem bo_p78y {post : Int32 → SY → Prop} {x1 x6 x7 x8 x9 z : Int32} {a b c d e : Nat → Int32} (hi : vp_in x1 8) (hp : post z (upd a x1.toNatClampNeg (vp_nar .short x6), upd b x1.toNatClampNeg (vp_nar .short x7), upd c x1.toNatClampNeg (vp_nar .short x8), upd d x1.toNatClampNeg (vp_nar .short x9), upd e x1.toNatClampNeg (vp_nar .boolean 1))) : wY_place_78 post x1 x6 x7 x8 x9 z a b c d e := by
  unfold wY_place_78
  exact ⟨hi, nm_e ⟨hi, nm_e ⟨hi, nm_e ⟨hi, nm_e ⟨hi, nm_e hp⟩⟩⟩⟩⟩
/-- place: one answer and one new state for both sides -/
theorem bo_place (a b c d e : Nat → Int32) (v1 v2 v3 v4 v5 : Int32) : ∃ (r : Int32) (w : SX), (∀ post : Int32 → SX → Prop, post r w → wpX_place post (a, b, c, d, e) v1 v2 v3 v4 v5) ∧ (∀ post : Int32 → SY → Prop, post r w → wpY_place post (a, b, c, d, e) v1 v2 v3 v4 v5) := by
  by_cases h0 : v1 < 0
  · exact ⟨-1, (a, b, c, d, e), fun _ hp => br_t h0 hp, fun _ hp => br_t h0 hp⟩
  by_cases h7 : v1 ≤ 7
  case neg => exact ⟨-1, (a, b, c, d, e), fun _ hp => br_f h0 (br_f h7 hp), fun _ hp => br_f h0 (br_f h7 hp)⟩
  have hi : vp_in v1 8 := by
    obtain ⟨j, hj, ej⟩ := nI_of2 (M := 7) (n := 7) (by decide) h0 h7
    rw [ej]
    exact bo_in (by omega)
  by_cases h4 : v4 < 0
  · exact ⟨-2, (a, b, c, d, e), fun _ hp => br_f h0 (br_t h7 (br_t h4 hp)), fun _ hp => br_f h0 (br_t h7 (br_t h4 hp))⟩
  by_cases h5 : 0 ≤ v5
  case neg => exact ⟨-2, (a, b, c, d, e), fun _ hp => br_f h0 (br_t h7 (br_f h4 (br_f h5 hp))), fun _ hp => br_f h0 (br_t h7 (br_f h4 (br_f h5 hp)))⟩
  by_cases hx : (v2 + v4).toInt16.toInt32 < v2.toInt16.toInt32
  · exact ⟨-3, (a, b, c, d, e), fun _ hp => br_f h0 (br_t h7 (br_f h4 (br_t h5 (nm_e (nm_e (br_t hx hp)))))), fun _ hp => br_f h0 (br_t h7 (br_f h4 (br_t h5 (nm_e (nm_e (br_t hx hp))))))⟩
  by_cases hy : v3.toInt16.toInt32 ≤ (v3 + v5).toInt16.toInt32
  case neg => exact ⟨-3, (a, b, c, d, e), fun _ hp => br_f h0 (br_t h7 (br_f h4 (br_t h5 (nm_e (nm_e (br_f hx (br_f hy hp))))))), fun _ hp => br_f h0 (br_t h7 (br_f h4 (br_t h5 (nm_e (nm_e (br_f hx (br_f hy hp)))))))⟩
  by_cases hz : e v1.toNatClampNeg = 0
  · exact ⟨0, _, fun _ hp => br_f h0 (br_t h7 (br_f h4 (br_t h5 (nm_e (nm_e (br_f hx (br_t hy ⟨hi, br_t hz (bo_p78x hi hp)⟩))))))), fun _ hp => br_f h0 (br_t h7 (br_f h4 (br_t h5 (nm_e (nm_e (br_f hx (br_t hy ⟨hi, br_t hz (bo_p78y hi hp)⟩)))))))⟩
  · exact ⟨1, _, fun _ hp => br_f h0 (br_t h7 (br_f h4 (br_t h5 (nm_e (nm_e (br_f hx (br_t hy ⟨hi, br_f hz (bo_p78x hi hp)⟩))))))), fun _ hp => br_f h0 (br_t h7 (br_f h4 (br_t h5 (nm_e (nm_e (br_f hx (br_t hy ⟨hi, br_f hz (bo_p78y hi hp)⟩)))))))⟩
end
section
/-- firstHit's scan from j on: one answer for both sides -/
theorem bo_scan (a b c d e : Nat → Int32) {i : Nat} (hi : i < 8) (gi : ¬ e i = 0) : ∀ m j : Nat, j + m = 8 → ∃ r : Int32, (∀ post : Int32 → Prop, post r → wX_firstHit_27 post (nI i) a b c d e (m + 1) (nI j)) ∧ (∀ post : Int32 → Prop, post r → wY_firstHit_24 post (nI i) a b c d e (m + 1) (nI j)) := by
  intro m
  induction m with
  | zero =>
    intro j hj
    have h := bo_ge8 (j := j) (by omega)
    exact ⟨-1, fun _ hp => br_t h hp, fun _ hp => br_t h hp⟩
  | succ m ih =>
    intro j hj
    have hj8 : j < 8 := by omega
    have h := bo_lt8 hj8
    obtain ⟨r, hX, hY⟩ := ih (j + 1) (by omega)
    by_cases q : nI j = nI i
    · exact ⟨r, fun post hp => br_f h (br_t q (nm_r (nI_1 j) (hX post hp))), fun post hp => br_f h (br_t q (nm_r (nI_1 j) (hY post hp)))⟩
    have vj := bo_in hj8
    have cj := bo_cl hj8
    by_cases gj : e j = 0
    · have gj' : e (nI j).toNatClampNeg = 0 := by rw [cj]; exact gj
      exact ⟨r, fun post hp => br_f h (br_f q ⟨vj, br_t gj' (nm_r (nI_1 j) (hX post hp))⟩), fun post hp => br_f h (br_f q (bo_y hi hj8 (br_t (bo_v0 gj) (nm_r (nI_1 j) (hY post hp)))))⟩
    have gj' : ¬ e (nI j).toNatClampNeg = 0 := by rw [cj]; exact gj
    by_cases t : bo_v a b c d e i j = 0
    · exact ⟨r, fun post hp => br_f h (br_f q ⟨vj, br_f gj' (bo_x hi hj8 gi gj (br_t t (nm_r (nI_1 j) (hX post hp))))⟩), fun post hp => br_f h (br_f q (bo_y hi hj8 (br_t t (nm_r (nI_1 j) (hY post hp)))))⟩
    · exact ⟨nI j, fun post hp => br_f h (br_f q ⟨vj, br_f gj' (bo_x hi hj8 gi gj (br_f t hp))⟩), fun post hp => br_f h (br_f q (bo_y hi hj8 (br_f t hp)))⟩
theorem bo_first (a b c d e : Nat → Int32) (v1 : Int32) : ∃ r : Int32, (∀ post : Int32 → Prop, post r → wpX_firstHit post (a, b, c, d, e) v1) ∧ (∀ post : Int32 → Prop, post r → wpY_firstHit post (a, b, c, d, e) v1) := by
  by_cases h0 : v1 < 0
  · exact ⟨-2, fun _ hp => br_t h0 hp, fun _ hp => br_t h0 hp⟩
  by_cases h7 : v1 ≤ 7
  case neg =>
    have h7' : 7 < v1 := Int32.not_le.mp h7
    exact ⟨-2, fun _ hp => br_f h0 (br_f h7 hp), fun _ hp => br_f h0 (br_t h7' hp)⟩
  have h7' : ¬ 7 < v1 := Int32.not_lt.mpr h7
  obtain ⟨i, hi, ei⟩ := nI_of2 (M := 7) (n := 7) (by decide) h0 h7
  subst ei
  have hi8 : i < 8 := by omega
  have vi := bo_in hi8
  by_cases g : e (nI i).toNatClampNeg = 0
  · exact ⟨-2, fun _ hp => br_f h0 (br_t h7 ⟨vi, br_t g hp⟩), fun _ hp => br_f h0 (br_f h7' ⟨vi, br_t g hp⟩)⟩
  have gi : ¬ e i = 0 := by rw [bo_cl hi8] at g; exact g
  obtain ⟨r, hX, hY⟩ := bo_scan a b c d e hi8 gi 8 0 rfl
  rw [nI_0] at hX hY
  exact ⟨r, fun post hp => br_f h0 (br_t h7 ⟨vi, br_f g ⟨_, hX post hp⟩⟩), fun post hp => br_f h0 (br_f h7' ⟨vi, br_f g ⟨_, hY post hp⟩⟩)⟩
end
section
/-- the count x after the pair (i, j) -/
def bo_h (a b c d e : Nat → Int32) (i j : Nat) (x : Int32) : Int32 := if bo_v a b c d e i j = 0 then x else x + 1
/-- the count after the m pairs (i, j), (i, j + 1), .. -/
def bo_row (a b c d e : Nat → Int32) (i : Nat) : Nat → Nat → Int32 → Int32
  | 0 => fun _ x => x
  | m + 1 => fun j x => bo_row a b c d e i m (j + 1) (bo_h a b c d e i j x)
/-- the count after the m rows i, i + 1, .. -/
def bo_all (a b c d e : Nat → Int32) : Nat → Nat → Int32 → Int32
  | 0 => fun _ x => x
  | m + 1 => fun i x => bo_all a b c d e m (i + 1) (bo_row a b c d e i (7 - i) (i + 1) x)
section
variable {a b c d e : Nat → Int32}
theorem bo_h0 {i j : Nat} {x : Int32} (h : bo_v a b c d e i j = 0) : bo_h a b c d e i j x = x := if_pos h
theorem bo_h1 {i j : Nat} {x : Int32} (h : ¬ bo_v a b c d e i j = 0) : bo_h a b c d e i j x = x + 1 := if_neg h
theorem bo_row0 {i : Nat} (h : e i = 0) : ∀ (m j : Nat) (x : Int32), bo_row a b c d e i m j x = x := by
  intro m
  induction m with
  | zero => intro j x; rfl
  | succ m ih =>
    intro j x
    show bo_row a b c d e i m (j + 1) (bo_h a b c d e i j x) = x
    rw [bo_h0 (bo_vi h), ih]
theorem bo_x23 {post : Int32 → Prop} {J : Int32 → Int32 → Prop} {i : Nat} (hi : i < 8) (gi : ¬ e i = 0) : ∀ (m j : Nat) (x : Int32), j + m = 8 → J (bo_row a b c d e i m j x) (nI (i + 1)) → wX_pairs_23 post J (nI i) a b c d e (m + 1) x (nI j) := by
  intro m
  induction m with
  | zero =>
    intro j x hj hJ
    exact br_t (bo_ge8 (by omega)) (nm_r (nI_1 i) hJ)
  | succ m ih =>
    intro j x hj hJ
    have hj8 : j < 8 := by omega
    have h := bo_lt8 hj8
    have vj := bo_in hj8
    have cj := bo_cl hj8
    have hJ' : J (bo_row a b c d e i m (j + 1) (bo_h a b c d e i j x)) (nI (i + 1)) := hJ
    by_cases gj : e j = 0
    · have gj' : e (nI j).toNatClampNeg = 0 := by rw [cj]; exact gj
      rw [bo_h0 (bo_v0 gj)] at hJ'
      exact br_f h ⟨vj, br_t gj' (nm_r (nI_1 j) (ih (j + 1) x (by omega) hJ'))⟩
    have gj' : ¬ e (nI j).toNatClampNeg = 0 := by rw [cj]; exact gj
    by_cases t : bo_v a b c d e i j = 0
    · rw [bo_h0 t] at hJ'
      exact br_f h ⟨vj, br_f gj' (bo_x hi hj8 gi gj (br_t t (nm_r (nI_1 j) (ih (j + 1) x (by omega) hJ'))))⟩
    · rw [bo_h1 t] at hJ'
      exact br_f h ⟨vj, br_f gj' (bo_x hi hj8 gi gj (br_f t (nm_e (nm_r (nI_1 j) (ih (j + 1) (x + 1) (by omega) hJ')))))⟩
theorem bo_x4 {post : Int32 → Prop} : ∀ (m i : Nat) (x : Int32), i + m = 8 → post (bo_all a b c d e m i x) → wX_pairs_4 post a b c d e (m + 1) x (nI i) := by
  intro m
  induction m with
  | zero =>
    intro i x hi hp
    exact br_t (bo_ge8 (by omega)) hp
  | succ m ih =>
    intro i x hi hp
    have hi8 : i < 8 := by omega
    have h := bo_lt8 hi8
    have vi := bo_in hi8
    have ci := bo_cl hi8
    have hp' : post (bo_all a b c d e m (i + 1) (bo_row a b c d e i (7 - i) (i + 1) x)) := hp
    have K := ih (i + 1) (bo_row a b c d e i (7 - i) (i + 1) x) (by omega) hp'
    by_cases gi : e i = 0
    · have gi' : e (nI i).toNatClampNeg = 0 := by rw [ci]; exact gi
      rw [bo_row0 gi] at K
      exact br_f h ⟨vi, br_t gi' (nm_r (nI_1 i) K)⟩
    · have gi' : ¬ e (nI i).toNatClampNeg = 0 := by rw [ci]; exact gi
      exact br_f h ⟨vi, br_f gi' (nm_r (nI_1 i) ⟨7 - i + 1, bo_x23 hi8 gi (7 - i) (i + 1) x (by omega) K⟩)⟩
theorem bo_yskip {post : Int32 → Prop} {n i j : Nat} {x : Int32} (hi : i < 8) (hj : j < 8) (h : j ≤ i) (H : wY_pairs_4 post a b c d e n x (nI (8 * i + j + 1))) : wY_pairs_4 post a b c d e (n + 1) x (nI (8 * i + j)) := by
  have g := bo_lt64 (j := 8 * i + j) (by omega)
  have l : nI j ≤ nI i := nI_le h (by omega)
  refine br_f g ?_
  rw [bo_and hi hj, bo_shr hi hj]
  exact br_t l (nm_r (nI_1 _) H)
theorem bo_ystep {post : Int32 → Prop} {n i j : Nat} {x : Int32} (hi : i < 8) (hj : j < 8) (h : i < j) (H : wY_pairs_4 post a b c d e n (bo_h a b c d e i j x) (nI (8 * i + j + 1))) : wY_pairs_4 post a b c d e (n + 1) x (nI (8 * i + j)) := by
  have g := bo_lt64 (j := 8 * i + j) (by omega)
  have l : ¬ nI j ≤ nI i := nI_ge h (by omega)
  refine br_f g ?_
  rw [bo_and hi hj, bo_shr hi hj]
  refine br_f l (bo_y hi hj ?_)
  by_cases t : bo_v a b c d e i j = 0
  · rw [bo_h0 t] at H
    exact br_t t (nm_r (nI_1 _) H)
  · rw [bo_h1 t] at H
    exact br_f t (nm_e (nm_r (nI_1 _) H))
theorem bo_yskips {post : Int32 → Prop} {n i : Nat} {x : Int32} (hi : i < 8) (H : wY_pairs_4 post a b c d e n x (nI (8 * i + (i + 1)))) : ∀ m j : Nat, j + m = i + 1 → wY_pairs_4 post a b c d e (n + m) x (nI (8 * i + j)) := by
  intro m
  induction m with
  | zero =>
    intro j hj
    have ej : j = i + 1 := hj
    rw [ej]
    exact H
  | succ m ih =>
    intro j hj
    exact bo_yskip hi (by omega) (by omega) (ih (j + 1) (by omega))
theorem bo_ysteps {post : Int32 → Prop} {n i : Nat} (hi : i < 8) : ∀ (m j : Nat) (x : Int32), j + m = 8 → i < j → wY_pairs_4 post a b c d e n (bo_row a b c d e i m j x) (nI (8 * (i + 1))) → wY_pairs_4 post a b c d e (n + m) x (nI (8 * i + j)) := by
  intro m
  induction m with
  | zero =>
    intro j x hj hl H
    have ej : 8 * i + j = 8 * (i + 1) := by omega
    rw [ej]
    exact H
  | succ m ih =>
    intro j x hj hl H
    exact bo_ystep hi (by omega) hl (ih (j + 1) _ (by omega) (by omega) H)
theorem bo_y4 {post : Int32 → Prop} : ∀ (m i : Nat) (x : Int32), i + m = 8 → post (bo_all a b c d e m i x) → wY_pairs_4 post a b c d e (8 * m + 1) x (nI (8 * i)) := by
  intro m
  induction m with
  | zero =>
    intro i x hi hp
    exact br_t (bo_ge64 (by omega)) hp
  | succ m ih =>
    intro i x hi hp
    have hp' : post (bo_all a b c d e m (i + 1) (bo_row a b c d e i (7 - i) (i + 1) x)) := hp
    have K := ih (i + 1) _ (by omega) hp'
    have K2 := bo_ysteps (i := i) (by omega) (7 - i) (i + 1) x (by omega) (by omega) K
    have K3 := bo_yskips (i := i) (by omega) K2 (i + 1) 0 (by omega)
    have en : 8 * m + 1 + (7 - i) + (i + 1) = 8 * (m + 1) + 1 := by omega
    rw [en] at K3
    exact K3
end
end
section
/-- the two tables hold the same arrays -/
def i_Rel (_ : Nat) (u : SX) (v : SY) : Prop := u = v
theorem i_up {k : Nat} {u : SX} {v : SY} (h : i_Rel k u v) : i_Rel (k + 6) u v := h
theorem i_vc0 : wpX_init (fun u => wpY_init (fun v => i_Rel 0 u v)) := rfl
theorem i_vc_place {k : Nat} {u : SX} {v : SY} (I : i_Rel k u v) (hk : k + 6 ≤ 3072) (v1 : Int32) (v2 : Int32) (v3 : Int32) (v4 : Int32) (v5 : Int32) : wpX_place (fun r u' => wpY_place (fun r' v' => r' = r ∧ i_Rel (k + 6) u' v') v v1 v2 v3 v4 v5) u v1 v2 v3 v4 v5 := by
  cases I
  obtain ⟨a, b, c, d, e⟩ := u
  obtain ⟨r, w, hX, hY⟩ := bo_place a b c d e v1 v2 v3 v4 v5
  exact hX _ (hY _ ⟨rfl, rfl⟩)
theorem i_vc_firstHit {k : Nat} {u : SX} {v : SY} (I : i_Rel k u v) (hk : k + 6 ≤ 3072) (v1 : Int32) : wpX_firstHit (fun r => wpY_firstHit (fun r' => r' = r ∧ i_Rel (k + 6) u v) v v1) u v1 := by
  cases I
  obtain ⟨a, b, c, d, e⟩ := u
  obtain ⟨r, hX, hY⟩ := bo_first a b c d e v1
  exact hX _ (hY _ ⟨rfl, rfl⟩)
theorem i_vc_pairs {k : Nat} {u : SX} {v : SY} (I : i_Rel k u v) (hk : k + 6 ≤ 3072) : wpX_pairs (fun r => wpY_pairs (fun r' => r' = r ∧ i_Rel (k + 6) u v) v) u := by
  cases I
  obtain ⟨a, b, c, d, e⟩ := u
  refine ⟨9, ?_⟩
  have hX := bo_x4 (a := a) (b := b) (c := c) (d := d) (e := e) (post := fun r => wpY_pairs (fun r' => r' = r ∧ i_Rel (k + 6) (a, b, c, d, e) (a, b, c, d, e)) (a, b, c, d, e)) 8 0 0 rfl
  rw [nI_0] at hX
  refine hX ⟨65, ?_⟩
  have hY := bo_y4 (a := a) (b := b) (c := c) (d := d) (e := e) (post := fun r' => r' = bo_all a b c d e 8 0 0 ∧ i_Rel (k + 6) (a, b, c, d, e) (a, b, c, d, e)) 8 0 0 rfl
  rw [Nat.mul_zero, nI_0] at hY
  exact hY ⟨rfl, rfl⟩
end
