section
/-! rows of kit/rows/PURE-ROWS (pk_..: starting texts), then the shift of an array's first cells (kr_..) -/
theorem pk_sub {a b : Nat} (h : b ≤ a) : nI a - nI b = nI (a - b) := by
  obtain ⟨c, rfl⟩ : ∃ c, a = c + b := ⟨a - b, by omega⟩
  rw [← nI_add, Int32.add_sub_cancel, Nat.add_sub_cancel]
theorem pk_m1 (n : Nat) : nI (n + 1) + (-1) = nI n := by
  rw [← nI_1, Int32.add_assoc, show (1 : Int32) + (-1) = 0 from rfl, Int32.add_zero]
theorem pk_mul (a b : Nat) : nI a * nI b = nI (a * b) := (Int32.ofNat_mul a b).symm
theorem pk_div {a d : Nat} (ha : a < 2 ^ 31) (h0 : 0 < d) (hd : d < 2 ^ 31) : nI a / nI d = nI (a / d) := by
  apply Int32.toInt_inj.mp
  rw [lg_idiv_nonneg (by rw [nI_toInt ha]; omega) (by rw [nI_toInt hd]; omega), nI_toInt ha, nI_toInt hd, nI_toInt (Nat.lt_of_le_of_lt (Nat.div_le_self a d) ha)]
  first | rfl | exact (Int.natCast_ediv _ _).symm
theorem pk_rem {a d : Nat} (ha : a < 2 ^ 31) (h0 : 0 < d) (hd : d < 2 ^ 31) : nI a - nI a / nI d * nI d = nI (a % d) := by
  rw [pk_div ha h0 hd, pk_mul, pk_sub (Nat.div_mul_le_self a d)]
  exact congrArg nI (by have := Nat.div_add_mod' a d; omega)
/-- cells 0 .. i-1 moved up by one, h in cell 0 -/
def kr_sh (h : Int32) (i : Nat) (a : Nat → Int32) : Nat → Int32 := fun j => if j = 0 then h else if j ≤ i then a (j - 1) else a j
theorem kr_sh0 (h : Int32) (a : Nat → Int32) : upd a 0 h = kr_sh h 0 a := by
  funext j
  show (if j = 0 then h else a j) = (if j = 0 then h else if j ≤ 0 then a (j - 1) else a j)
  by_cases z : j = 0
  · rw [if_pos z, if_pos z]
  · rw [if_neg z, if_neg z, if_neg (by omega)]
theorem kr_shS (h : Int32) (i : Nat) (a : Nat → Int32) : kr_sh h i (upd a (i + 1) (a i)) = kr_sh h (i + 1) a := by
  funext j
  show (if j = 0 then h else if j ≤ i then (if j - 1 = i + 1 then a i else a (j - 1)) else (if j = i + 1 then a i else a j)) = (if j = 0 then h else if j ≤ i + 1 then a (j - 1) else a j)
  by_cases z : j = 0
  · rw [if_pos z, if_pos z]
  · rw [if_neg z, if_neg z]
    by_cases l : j ≤ i
    · rw [if_pos l, if_neg (by omega), if_pos (by omega)]
    · rw [if_neg l]
      by_cases e : j = i + 1
      · subst e
        rw [if_pos rfl, if_pos (Nat.le_refl _), Nat.add_sub_cancel]
      · rw [if_neg e, if_neg (by omega)]
/-- equal below s; shifted by i and by i', both at least s: equal below s + 1 -/
theorem kr_eq {h : Int32} {a b : Nat → Int32} {s t i i' : Nat} (e : ∀ j, j < s → a j = b j) (hi : t ≤ i + 1) (hi' : t ≤ i' + 1) (ht : t ≤ s + 1) : ∀ j, j < t → kr_sh h i a j = kr_sh h i' b j := by
  intro j hj
  show (if j = 0 then h else if j ≤ i then a (j - 1) else a j) = (if j = 0 then h else if j ≤ i' then b (j - 1) else b j)
  by_cases z : j = 0
  · rw [if_pos z, if_pos z]
  · rw [if_neg z, if_neg z, if_pos (by omega), if_pos (by omega)]
    exact e _ (by omega)
end
section
/-! the two shifting loops of kill, each with a general post -/
theorem kr_cl {i : Nat} (h : i < 4) : (nI i).toNatClampNeg = i := nI_clamp (by omega)
theorem kr_upd {i : Nat} (h : i + 1 < 4) (a : Nat → Int32) : upd a (nI (i + 1)).toNatClampNeg (a (nI (i + 1) - 1).toNatClampNeg) = upd a (i + 1) (a i) := by
  rw [nI_pred, kr_cl h, kr_cl (by omega)]
theorem kr_in1 {i : Nat} (h : i + 1 < 4) : vp_in (nI (i + 1) - 1) 4 := by
  rw [nI_pred]; exact vp_in_nI (by omega) (by omega)
theorem kr_X {post : Int32 → SX → Prop} {h c s p : Int32} : ∀ (i : Nat) (a : Nat → Int32), i < 4 → post s (c, s, 0, kr_sh h i a) → wX_kill_34 post h c s p (i + 1) (nI i) a := by
  intro i
  induction i with
  | zero =>
    intro a _ hp
    have z : nI 0 ≤ 0 := by decide
    exact br_t z (nm_r (kr_sh0 h a) hp)
  | succ i ih =>
    intro a hi hp
    have z : ¬ nI (i + 1) ≤ 0 := nI_nle (by omega) (by omega)
    refine br_f z ⟨kr_in1 hi, vp_in_nI hi (by omega), nm_r (kr_upd hi a) (nm_r (pk_m1 i) ?_)⟩
    refine ih _ (by omega) ?_
    rw [kr_shS]
    exact hp
theorem kr_Y {post : Int32 → SY → Prop} {h c s p : Int32} : ∀ (i : Nat) (a : Nat → Int32), i < 4 → (c ≤ s → post s (c, s, 0, kr_sh h i a)) → (¬ c ≤ s → post (s + 1) (c, s + 1, 0, kr_sh h i a)) → wY_kill_13 post h c s p (i + 1) (nI i) a := by
  intro i
  induction i with
  | zero =>
    intro a _ hp hq
    have z : nI 0 ≤ 0 := by decide
    exact br_t z (nm_r (kr_sh0 h a) (br_c hp (fun hn => nm_e (hq hn))))
  | succ i ih =>
    intro a hi hp hq
    have z : ¬ nI (i + 1) ≤ 0 := nI_nle (by omega) (by omega)
    refine br_f z ⟨kr_in1 hi, vp_in_nI hi (by omega), nm_r (kr_upd hi a) (nm_r (pk_m1 i) ?_)⟩
    refine ih _ (by omega) ?_ ?_
    · rw [kr_shS]; exact hp
    · rw [kr_shS]; exact hq
end
section
/-! the relation and the owed rows (their statements: claim/defs.txt) -/
/-- one capacity c in 1 .. 4, one size s, one pointer p within (or 0 while empty), and the first s cells alike -/
def i_Rel (_ : Nat) (u : SX) (v : SY) : Prop := ∃ (c s p : Nat) (a b : Nat → Int32), u = (nI c, nI s, nI p, a) ∧ v = (nI c, nI s, nI p, b) ∧ 1 ≤ c ∧ c ≤ 4 ∧ s ≤ c ∧ (p < s ∨ (s = 0 ∧ p = 0)) ∧ ∀ j, j < s → a j = b j
theorem i_up {k : Nat} {u : SX} {v : SY} (h : i_Rel k u v) : i_Rel (k + 2) u v := h
theorem kr_new {k c : Nat} (h1 : 1 ≤ c) (h4 : c ≤ 4) : i_Rel k (nI c, 0, 0, fun _ => 0) (nI c, 0, 0, fun _ => 0) :=
  ⟨c, 0, 0, fun _ => 0, fun _ => 0, rfl, rfl, h1, h4, Nat.zero_le _, Or.inr ⟨rfl, rfl⟩, fun _ _ => rfl⟩
theorem kr_4 : nI 4 = 4 := by decide +kernel
theorem kr_1 : nI 1 = 1 := by decide +kernel
theorem kr_cap {x : Int32} (h1 : 1 ≤ x) (h4 : x ≤ 4) : ∃ c : Nat, 1 ≤ c ∧ c ≤ 4 ∧ x = nI c := by
  have n0 : ¬ x < 0 := Int32.not_lt.mpr (Int32.le_trans (by decide) h1)
  obtain ⟨c, hc, rfl⟩ := nI_of n0
  rw [← kr_1, nI_leI (by omega) hc] at h1
  rw [← kr_4, nI_leI hc (by omega)] at h4
  exact ⟨c, h1, h4, rfl⟩
theorem i_vc0 (k0 : Int32) : wpX_init (fun u => wpY_init (fun v => i_Rel 1 u v) k0) k0 := by
  by_cases h1 : 1 ≤ k0
  · by_cases h4 : k0 ≤ 4
    · obtain ⟨c, hc1, hc4, e⟩ := kr_cap h1 h4
      have R : i_Rel 1 (k0, 0, 0, fun _ => 0) (k0, 0, 0, fun _ => 0) := by rw [e]; exact kr_new hc1 hc4
      exact br_t h1 (br_t h4 (br_t h1 (br_t h4 R)))
    · have R : i_Rel 1 (4, 0, 0, fun _ => 0) (4, 0, 0, fun _ => 0) := by rw [← kr_4]; exact kr_new (by omega) (by omega)
      exact br_t h1 (br_f h4 (br_t h1 (br_f h4 R)))
  · have R : i_Rel 1 (1, 0, 0, fun _ => 0) (1, 0, 0, fun _ => 0) := by rw [← kr_1]; exact kr_new (by omega) (by omega)
    exact br_f h1 (br_f h1 R)
/-- the states behind a kill -/
theorem kr_K {k c s i i' : Nat} {h : Int32} {a b : Nat → Int32} (h1 : 1 ≤ c) (h4 : c ≤ 4) (hs : s ≤ c) (hs0 : 0 < s) (he : ∀ j, j < s → kr_sh h i a j = kr_sh h i' b j) : i_Rel k (nI c, nI s, 0, kr_sh h i a) (nI c, nI s, 0, kr_sh h i' b) :=
  ⟨c, s, 0, _, _, rfl, rfl, h1, h4, hs, Or.inl hs0, he⟩
theorem kr_sub1 {n : Nat} (h : 1 ≤ n) : nI n - 1 = nI (n - 1) := pk_sub h
theorem i_vc_kill {k : Nat} {u : SX} {v : SY} (I : i_Rel k u v) (hk : k + 2 ≤ 1025) (v1 : Int32) : wpX_kill (fun r u' => wpY_kill (fun r' v' => r' = r ∧ i_Rel (k + 2) u' v') v v1) u v1 := by
  obtain ⟨c, s, p, a, b, rfl, rfl, h1, h4, hs, hp, he⟩ := I
  unfold wpX_kill wpY_kill
  dsimp only
  by_cases h0 : 0 ≤ v1
  · by_cases hf : nI c ≤ nI s
    · have hcs : c ≤ s := (nI_leI (by omega) (by omega)).mp hf
      refine br_t h0 (br_t hf (nm_r (kr_sub1 (by omega)) ⟨s - 1 + 1, kr_X (s - 1) a (by omega) ?_⟩))
      refine br_t h0 (nm_r (kr_sub1 h1) ⟨c - 1 + 1, kr_Y (c - 1) b (by omega) (fun _ => ⟨rfl, ?_⟩) (fun hn => absurd hf hn)⟩)
      exact kr_K h1 h4 hs (by omega) (kr_eq he (by omega) (by omega) (by omega))
    · have hcs : ¬ c ≤ s := fun hh => hf ((nI_leI (by omega) (by omega)).mpr hh)
      refine br_t h0 (br_f hf (nm_r (nI_1 s) (nm_r (nI_pred s) ⟨s + 1, kr_X s a (by omega) ?_⟩)))
      refine br_t h0 (nm_r (kr_sub1 h1) ⟨c - 1 + 1, kr_Y (c - 1) b (by omega) (fun hn => absurd hn hf) (fun _ => ?_)⟩)
      rw [nI_1 s]
      exact ⟨rfl, kr_K h1 h4 (by omega) (by omega) (kr_eq he (by omega) (by omega) (by omega))⟩
  · exact br_f h0 (br_f h0 ⟨rfl, c, s, p, a, b, rfl, rfl, h1, h4, hs, hp, he⟩)
theorem i_vc_yank {k : Nat} {u : SX} {v : SY} (I : i_Rel k u v) (hk : k + 2 ≤ 1025) : wpX_yank (fun r => wpY_yank (fun r' => r' = r ∧ i_Rel (k + 2) u v) v) u := by
  have I' : i_Rel (k + 2) u v := I
  obtain ⟨c, s, p, a, b, rfl, rfl, h1, h4, hs, hp, he⟩ := I
  unfold wpX_yank wpY_yank
  dsimp only
  by_cases h0 : nI s = 0
  · exact br_t h0 (br_t h0 ⟨rfl, I'⟩)
  · have hs0 : s ≠ 0 := fun z => h0 (by rw [z]; exact nI_0)
    have hps : p < s := by omega
    have hi : vp_in (nI p) 4 := vp_in_nI (by omega) (by omega)
    refine br_f h0 ⟨hi, br_f h0 ⟨hi, ?_, I'⟩⟩
    rw [nI_clamp (by omega)]
    exact (he p hps).symm
theorem i_vc_yankPop {k : Nat} {u : SX} {v : SY} (I : i_Rel k u v) (hk : k + 2 ≤ 1025) : wpX_yankPop (fun r u' => wpY_yankPop (fun r' v' => r' = r ∧ i_Rel (k + 2) u' v') v) u := by
  obtain ⟨c, s, p, a, b, rfl, rfl, h1, h4, hs, hp, he⟩ := I
  unfold wpX_yankPop wpY_yankPop
  dsimp only
  by_cases h0 : nI s = 0
  · exact br_t h0 (br_t h0 ⟨rfl, c, s, p, a, b, rfl, rfl, h1, h4, hs, hp, he⟩)
  · have hs0 : s ≠ 0 := fun z => h0 (by rw [z]; exact nI_0)
    have hps : p < s := by omega
    have er : nI (p + 1) - nI (p + 1) / nI s * nI s = nI ((p + 1) % s) := pk_rem (by omega) (by omega) (by omega)
    rw [nI_1 p, er]
    by_cases hl : p + 1 < s
    · have em : (p + 1) % s = p + 1 := Nat.mod_eq_of_lt hl
      have hi : vp_in (nI (p + 1)) 4 := vp_in_nI (by omega) (by omega)
      rw [em]
      refine br_f h0 (nm_e (br_t (nI_lt hl (by omega)) ⟨hi, br_f h0 ⟨h0, nm_e ⟨hi, ?_, ?_⟩⟩⟩))
      · rw [nI_clamp (by omega)]
        exact (he _ hl).symm
      · exact ⟨c, s, p + 1, a, b, rfl, rfl, h1, h4, hs, Or.inl hl, he⟩
    · have em : (p + 1) % s = 0 := by
        have e : p + 1 = s := by omega
        rw [e]; exact Nat.mod_self s
      have hi : vp_in (nI 0) 4 := vp_in_nI (by omega) (by omega)
      rw [em]
      refine br_f h0 (nm_e (br_f (nI_nlt (by omega) (by omega)) (br_f h0 ⟨h0, nm_e ⟨hi, ?_, ?_⟩⟩)))
      · rw [nI_clamp (by omega)]
        exact (he _ (by omega)).symm
      · exact ⟨c, s, 0, a, b, rfl, rfl, h1, h4, hs, Or.inl (by omega), he⟩
theorem i_vc_count {k : Nat} {u : SX} {v : SY} (I : i_Rel k u v) (hk : k + 2 ≤ 1025) : wpX_count (fun r => wpY_count (fun r' => r' = r ∧ i_Rel (k + 2) u v) v) u := by
  have I' : i_Rel (k + 2) u v := I
  obtain ⟨c, s, p, a, b, rfl, rfl, h1, h4, hs, hp, he⟩ := I
  exact ⟨rfl, I'⟩
end
