section
/-- the sum of the first n values of f, in longs, from 0 -/
def cc_sum (f : Nat → Int64) : Nat → Int64
  | 0 => 0
  | n + 1 => cc_sum f n + f n
/-- the i-th product of the k-th cell; s is -1 (convolve) or 1 (correlate) -/
def cc_F (s : Int32) (a b : Nat → Int32) (k i : Nat) : Int64 := (a i).toInt64 * (b ((nI k + s * nI i) &&& 7).toNatClampNeg).toInt64
/-- the long array once its first k cells are filled -/
def cc_out (f : Nat → Nat → Int64) (o : Nat → Int64) : Nat → Nat → Int64
  | 0 => o
  | k + 1 => vp_updL (cc_out f o k) k (cc_sum (f k) 8)
/-- the reference's running answer at the head of row k -/
def cc_r (f : Nat → Nat → Int64) : Nat → Int64
  | 0 => 0
  | k + 1 => cc_sum (f k) 8
theorem cc_uu (o : Nat → Int64) (k : Nat) (x y : Int64) : vp_updL (vp_updL o k x) k y = vp_updL o k y := by
  funext j
  unfold vp_updL
  by_cases h : j = k
  · rw [if_pos h, if_pos h]
  · rw [if_neg h, if_neg h, if_neg h]
theorem cc_us (o : Nat → Int64) (k : Nat) (x : Int64) : vp_updL o k x k = x := if_pos rfl
theorem cc_and (y : Int32) : vp_in (y &&& 7) 8 := by
  have h : (y &&& 7).toBitVec.toNat < 8 := by
    rw [Int32.toBitVec_and, BitVec.toNat_and]
    exact Nat.lt_of_le_of_lt Nat.and_le_right (by decide)
  have e : (y &&& 7).toInt = (y &&& 7).toBitVec.toInt := rfl
  rw [vp_in_iff, e, BitVec.toInt_eq_toNat_of_lt (by omega)]
  omega
theorem cc_8 : nI 8 = 8 := by decide +kernel
theorem cc_64 : nI 64 = 64 := by decide +kernel
theorem cc_le8 : (8 : Int32) ≤ nI 8 := by rw [cc_8]; decide
theorem cc_le64 : (64 : Int32) ≤ nI 64 := by rw [cc_64]; decide
theorem cc_lt8 {i : Nat} (h : i < 8) : ¬ (8 : Int32) ≤ nI i := by rw [← cc_8]; exact nI_ge h (by decide)
theorem cc_lt64 {i : Nat} (h : i < 64) : ¬ (64 : Int32) ≤ nI i := by rw [← cc_64]; exact nI_ge h (by decide)
theorem cc_neg (x y : Int32) : x - y = x + (-1) * y := by grind
theorem cc_one (x y : Int32) : x + y = x + 1 * y := by grind
theorem cc_tk : ∀ k : Nat, k < 8 → ∀ i : Nat, i < 8 → nI (8 * k + i) >>> ((3 : Int32) &&& 31) = nI k := by decide +kernel
theorem cc_ti : ∀ k : Nat, k < 8 → ∀ i : Nat, i < 8 → nI (8 * k + i) &&& 7 = nI i := by decide +kernel
end
section
theorem cc_x13_convolve (post : Int64 → SX → Prop) (J2 : Int32 → (Nat → Int32) → (Nat → Int32) → (Nat → Int64) → Prop) (a b : Nat → Int32) (o : Nat → Int64) (k : Nat) (hk : k < 8) (h : J2 (nI (k + 1)) a b (vp_updL o k (cc_sum (cc_F (-1) a b k) 8))) : ∀ d i : Nat, i + d = 8 → wX_convolve_13 post J2 (nI k) a b o (d + 1) (cc_sum (cc_F (-1) a b k) i) (nI i) := by
  have ck : (nI k).toNatClampNeg = k := nI_clamp (by omega)
  intro d
  induction d with
  | zero =>
    intro i hi
    have e : i = 8 := by omega
    subst e
    refine br_t cc_le8 ⟨vp_in_nI hk (by decide), nm_r (e' := vp_updL o k (cc_sum (cc_F (-1) a b k) 8)) ?_ (nm_r (nI_1 k) h)⟩
    rw [ck]
  | succ d ih =>
    intro i hi
    have ci : (nI i).toNatClampNeg = i := nI_clamp (by omega)
    refine br_f (cc_lt8 (by omega)) ⟨vp_in_nI (by omega) (by decide), cc_and _, nm_r (e' := cc_sum (cc_F (-1) a b k) (i + 1)) ?_ (nm_r (nI_1 i) (ih (i + 1) (by omega)))⟩
    rw [ci, cc_neg (nI k) (nI i)]
    rfl
theorem cc_x2_convolve (post : Int64 → SX → Prop) (a b : Nat → Int32) (o : Nat → Int64) (h : post (cc_sum (cc_F (-1) a b 7) 8) (a, b, cc_out (cc_F (-1) a b) o 8)) : ∀ d k : Nat, k + d = 8 → wX_convolve_2 post (d + 1) (nI k) a b (cc_out (cc_F (-1) a b) o k) := by
  intro d
  induction d with
  | zero =>
    intro k hk
    have e : k = 8 := by omega
    subst e
    have e7 : cc_out (cc_F (-1) a b) o 8 7 = cc_sum (cc_F (-1) a b 7) 8 := cc_us _ _ _
    refine br_t cc_le8 ?_
    rw [e7]
    exact h
  | succ d ih =>
    intro k hk
    exact br_f (cc_lt8 (by omega)) ⟨9, cc_x13_convolve post _ a b _ k (by omega) (ih (k + 1) (by omega)) 8 0 rfl⟩
theorem cc_x_convolve (post : Int64 → SX → Prop) (a b : Nat → Int32) (o : Nat → Int64) (h : post (cc_sum (cc_F (-1) a b 7) 8) (a, b, cc_out (cc_F (-1) a b) o 8)) : wpX_convolve post (a, b, o) := Exists.intro 9 (cc_x2_convolve post a b o h 8 0 rfl)
theorem cc_x13_correlate (post : Int64 → SX → Prop) (J2 : Int32 → (Nat → Int32) → (Nat → Int32) → (Nat → Int64) → Prop) (a b : Nat → Int32) (o : Nat → Int64) (k : Nat) (hk : k < 8) (h : J2 (nI (k + 1)) a b (vp_updL o k (cc_sum (cc_F 1 a b k) 8))) : ∀ d i : Nat, i + d = 8 → wX_correlate_13 post J2 (nI k) a b o (d + 1) (cc_sum (cc_F 1 a b k) i) (nI i) := by
  have ck : (nI k).toNatClampNeg = k := nI_clamp (by omega)
  intro d
  induction d with
  | zero =>
    intro i hi
    have e : i = 8 := by omega
    subst e
    refine br_t cc_le8 ⟨vp_in_nI hk (by decide), nm_r (e' := vp_updL o k (cc_sum (cc_F 1 a b k) 8)) ?_ (nm_r (nI_1 k) h)⟩
    rw [ck]
  | succ d ih =>
    intro i hi
    have ci : (nI i).toNatClampNeg = i := nI_clamp (by omega)
    refine br_f (cc_lt8 (by omega)) ⟨vp_in_nI (by omega) (by decide), cc_and _, nm_r (e' := cc_sum (cc_F 1 a b k) (i + 1)) ?_ (nm_r (nI_1 i) (ih (i + 1) (by omega)))⟩
    rw [ci, cc_one (nI k) (nI i)]
    rfl
theorem cc_x2_correlate (post : Int64 → SX → Prop) (a b : Nat → Int32) (o : Nat → Int64) (h : post (cc_sum (cc_F 1 a b 7) 8) (a, b, cc_out (cc_F 1 a b) o 8)) : ∀ d k : Nat, k + d = 8 → wX_correlate_2 post (d + 1) (nI k) a b (cc_out (cc_F 1 a b) o k) := by
  intro d
  induction d with
  | zero =>
    intro k hk
    have e : k = 8 := by omega
    subst e
    have e7 : cc_out (cc_F 1 a b) o 8 7 = cc_sum (cc_F 1 a b 7) 8 := cc_us _ _ _
    refine br_t cc_le8 ?_
    rw [e7]
    exact h
  | succ d ih =>
    intro k hk
    exact br_f (cc_lt8 (by omega)) ⟨9, cc_x13_correlate post _ a b _ k (by omega) (ih (k + 1) (by omega)) 8 0 rfl⟩
theorem cc_x_correlate (post : Int64 → SX → Prop) (a b : Nat → Int32) (o : Nat → Int64) (h : post (cc_sum (cc_F 1 a b 7) 8) (a, b, cc_out (cc_F 1 a b) o 8)) : wpX_correlate post (a, b, o) := Exists.intro 9 (cc_x2_correlate post a b o h 8 0 rfl)
end
section
theorem cc_y38 (post : Int64 → SY → Prop) (J5 : Int64 → Int32 → (Nat → Int32) → (Nat → Int32) → (Nat → Int64) → Prop) (s : Int32) (a b : Nat → Int32) (o : Nat → Int64) (t k i : Nat) (hk : k < 8) (hi : i < 8) (w : Int64) (ho : o k = w) (h : J5 (w + cc_F s a b k i) (nI (t + 1)) a b (vp_updL o k (w + cc_F s a b k i))) : wY_fill_38 post J5 s (nI t) (nI k) (nI i) a b o := by
  have ck : (nI k).toNatClampNeg = k := nI_clamp (by omega)
  have ci : (nI i).toNatClampNeg = i := nI_clamp (by omega)
  unfold wY_fill_38
  rw [ck, ci, ho]
  exact ⟨vp_in_nI hk (by decide), vp_in_nI hi (by decide), cc_and _, vp_in_nI hk (by decide), nm_e (nm_e (nm_r (nI_1 t) h))⟩
theorem cc_y5 (post : Int64 → SY → Prop) (s : Int32) (a b : Nat → Int32) (o : Nat → Int64) (k i n : Nat) (hk : k < 8) (hi : i < 8) (w x2 : Int64) (c : i ≠ 0 → o k = w) (c0 : i = 0 → w = 0) (h : wY_fill_5 post s n (w + cc_F s a b k i) (nI (8 * k + i + 1)) a b (vp_updL o k (w + cc_F s a b k i))) : wY_fill_5 post s (n + 1) x2 (nI (8 * k + i)) a b o := by
  have ck : (nI k).toNatClampNeg = k := nI_clamp (by omega)
  refine br_f (cc_lt64 (by omega)) (nm_r (cc_tk k hk i hi) (nm_r (cc_ti k hk i hi) ?_))
  by_cases z : i = 0
  · subst z
    have w0 : w = 0 := c0 rfl
    subst w0
    refine br_t nI_0 ⟨vp_in_nI hk (by decide), nm_r (e' := vp_updL o k 0) (by rw [ck]) (cc_y38 post _ s a b _ (8 * k + 0) k 0 hk hi 0 (cc_us _ _ _) ?_)⟩
    rw [cc_uu]
    exact h
  · exact br_f (nI_ne0 (by omega) (by omega)) (cc_y38 post _ s a b o (8 * k + i) k i hk hi w (c z) h)
theorem cc_yrow (post : Int64 → SY → Prop) (s : Int32) (a b : Nat → Int32) (o : Nat → Int64) (k n : Nat) (hk : k < 8) (h : wY_fill_5 post s n (cc_sum (cc_F s a b k) 8) (nI (8 * (k + 1))) a b (vp_updL o k (cc_sum (cc_F s a b k) 8))) : ∀ d i : Nat, i + 1 + d = 8 → wY_fill_5 post s (n + d) (cc_sum (cc_F s a b k) (i + 1)) (nI (8 * k + (i + 1))) a b (vp_updL o k (cc_sum (cc_F s a b k) (i + 1))) := by
  intro d
  induction d with
  | zero =>
    intro i hi
    have e : i = 7 := by omega
    subst e
    exact h
  | succ d ih =>
    intro i hi
    refine cc_y5 post s a b _ k (i + 1) (n + d) hk (by omega) (cc_sum (cc_F s a b k) (i + 1)) _ (fun _ => cc_us _ _ _) (fun z => absurd z (Nat.succ_ne_zero i)) ?_
    rw [cc_uu]
    exact ih (i + 1) (by omega)
theorem cc_y8 (post : Int64 → SY → Prop) (s : Int32) (a b : Nat → Int32) (o : Nat → Int64) (k n : Nat) (x2 : Int64) (hk : k < 8) (h : wY_fill_5 post s n (cc_sum (cc_F s a b k) 8) (nI (8 * (k + 1))) a b (vp_updL o k (cc_sum (cc_F s a b k) 8))) : wY_fill_5 post s (n + 8) x2 (nI (8 * k)) a b o :=
  cc_y5 post s a b o k 0 (n + 7) hk (by decide) 0 x2 (fun z => absurd rfl z) (fun _ => rfl) (cc_yrow post s a b o k n hk h 7 0 rfl)
theorem cc_yall (post : Int64 → SY → Prop) (s : Int32) (a b : Nat → Int32) (o : Nat → Int64) (h : post (cc_sum (cc_F s a b 7) 8) (a, b, cc_out (cc_F s a b) o 8)) : ∀ d k : Nat, k + d = 8 → wY_fill_5 post s (8 * d + 1) (cc_r (cc_F s a b) k) (nI (8 * k)) a b (cc_out (cc_F s a b) o k) := by
  intro d
  induction d with
  | zero =>
    intro k hk
    have e : k = 8 := by omega
    subst e
    exact br_t cc_le64 h
  | succ d ih =>
    intro k hk
    have e : 8 * (d + 1) + 1 = (8 * d + 1) + 8 := by omega
    rw [e]
    exact cc_y8 post s a b _ k (8 * d + 1) _ (by omega) (ih (k + 1) (by omega))
theorem cc_y_fill (post : Int64 → SY → Prop) (s : Int32) (a b : Nat → Int32) (o : Nat → Int64) (h : post (cc_sum (cc_F s a b 7) 8) (a, b, cc_out (cc_F s a b) o 8)) : wpY_fill post (a, b, o) s := Exists.intro 65 (cc_yall post s a b o h 8 0 rfl)
theorem cc_y_convolve (post : Int64 → SY → Prop) (a b : Nat → Int32) (o : Nat → Int64) (h : post (cc_sum (cc_F (-1) a b 7) 8) (a, b, cc_out (cc_F (-1) a b) o 8)) : wpY_convolve post (a, b, o) := by
  unfold wpY_convolve
  dsimp only
  exact cc_y_fill _ (-1) a b o h
theorem cc_y_correlate (post : Int64 → SY → Prop) (a b : Nat → Int32) (o : Nat → Int64) (h : post (cc_sum (cc_F 1 a b 7) 8) (a, b, cc_out (cc_F 1 a b) o 8)) : wpY_correlate post (a, b, o) := by
  unfold wpY_correlate
  dsimp only
  exact cc_y_fill _ 1 a b o h
end
section
/-- the two objects hold the same three arrays -/
def i_Rel (_ : Nat) (u : SX) (v : SY) : Prop := u = v
theorem i_up {k : Nat} {u : SX} {v : SY} (h : i_Rel k u v) : i_Rel (k + 4) u v := h
theorem i_vc0 : wpX_init (fun u => wpY_init (fun v => i_Rel 0 u v)) := rfl
theorem i_vc_put {k : Nat} {u : SX} {v : SY} (I : i_Rel k u v) (hk : k + 4 ≤ 2048) (v1 : Int32) (v2 : Int32) (v3 : Int32) : wpX_put (fun r u' => wpY_put (fun r' v' => r' = r ∧ i_Rel (k + 4) u' v') v v1 v2 v3) u v1 v2 v3 := by
  cases I
  obtain ⟨a, b, o⟩ := u
  by_cases h0 : v1 = 0
  · exact nm_e (br_t h0 (And.intro (cc_and _) (nm_e (And.intro (cc_and _) (nm_e (br_t h0 (br_t h0 (And.intro (cc_and _) (nm_e (And.intro (cc_and _) (nm_e (And.intro rfl rfl))))))))))))
  · by_cases h1 : v1 = 1
    · exact nm_e (br_f h0 (br_t h1 (And.intro (cc_and _) (nm_e (And.intro (cc_and _) (nm_e (br_f h0 (br_t h1 (br_f h0 (And.intro (cc_and _) (nm_e (And.intro (cc_and _) (nm_e (And.intro rfl rfl))))))))))))))
    · exact nm_e (br_f h0 (br_f h1 (br_f h0 (br_f h1 (And.intro rfl rfl)))))
theorem i_vc_convolve {k : Nat} {u : SX} {v : SY} (I : i_Rel k u v) (hk : k + 4 ≤ 2048) : wpX_convolve (fun r u' => wpY_convolve (fun r' v' => r' = r ∧ i_Rel (k + 4) u' v') v) u := by
  cases I
  obtain ⟨a, b, o⟩ := u
  exact cc_x_convolve _ a b o (cc_y_convolve _ a b o (And.intro rfl rfl))
theorem i_vc_correlate {k : Nat} {u : SX} {v : SY} (I : i_Rel k u v) (hk : k + 4 ≤ 2048) : wpX_correlate (fun r u' => wpY_correlate (fun r' v' => r' = r ∧ i_Rel (k + 4) u' v') v) u := by
  cases I
  obtain ⟨a, b, o⟩ := u
  exact cc_x_correlate _ a b o (cc_y_correlate _ a b o (And.intro rfl rfl))
theorem i_vc_out {k : Nat} {u : SX} {v : SY} (I : i_Rel k u v) (hk : k + 4 ≤ 2048) (v1 : Int32) : wpX_out (fun r => wpY_out (fun r' => r' = r ∧ i_Rel (k + 4) u v) v v1) u v1 := by
  cases I
  obtain ⟨a, b, o⟩ := u
  exact And.intro (cc_and _) (And.intro (cc_and _) (And.intro rfl rfl))
end
