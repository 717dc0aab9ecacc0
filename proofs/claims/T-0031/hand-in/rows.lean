section
/-! pk_sub is a row of kit/rows (a starting text); all else here is written for this claim -/
theorem pk_sub {a b : Nat} (h : b ≤ a) : nI a - nI b = nI (a - b) := by
  obtain ⟨c, rfl⟩ : ∃ c, a = c + b := ⟨a - b, by omega⟩
  rw [← nI_add, Int32.add_sub_cancel, Nat.add_sub_cancel]
theorem ba_64 : nI 64 = 64 := by decide +kernel
theorem ba_one : nI 1 = 1 := by decide +kernel
/-- the array a with z in the cells i .. e - 1 -/
def ba_fill (a : Nat → Int32) (i e : Nat) (z : Int32) : Nat → Int32 := fun j => if i ≤ j ∧ j < e then z else a j
theorem ba_fill_in {a : Nat → Int32} {i e j : Nat} {z : Int32} (h : i ≤ j) (g : j < e) : ba_fill a i e z j = z := if_pos ⟨h, g⟩
theorem ba_fill_lo {a : Nat → Int32} {i e j : Nat} {z : Int32} (h : j < i) : ba_fill a i e z j = a j := if_neg (fun g => absurd g.1 (by omega))
theorem ba_fill_hi {a : Nat → Int32} {i e j : Nat} {z : Int32} (h : e ≤ j) : ba_fill a i e z j = a j := if_neg (fun g => absurd g.2 (by omega))
theorem ba_fill_0 (a : Nat → Int32) (e : Nat) (z : Int32) : ba_fill a e e z = a := by
  funext j
  exact if_neg (fun g => absurd g.1 (by omega))
theorem ba_fill_s (a : Nat → Int32) {i e : Nat} (h : i < e) (z : Int32) : ba_fill (upd a i z) (i + 1) e z = ba_fill a i e z := by
  funext j
  by_cases hj : j = i
  · subst hj
    rw [ba_fill_lo (by omega), ba_fill_in (by omega) h]
    exact if_pos rfl
  · by_cases h1 : j < i
    · rw [ba_fill_lo (by omega), ba_fill_lo h1]
      exact if_neg hj
    · by_cases h2 : j < e
      · rw [ba_fill_in (by omega) h2, ba_fill_in (by omega) h2]
      · rw [ba_fill_hi (by omega), ba_fill_hi (by omega)]
        exact if_neg hj
/-- the first t cells are live, the others up to c are not -/
def ba_Live (c t : Nat) (lv : Nat → Int32) : Prop := t ≤ c ∧ c ≤ 64 ∧ (∀ j, j < t → lv j = 1) ∧ (∀ j, t ≤ j → j < c → lv j = 0)
/-- the reference's count of the live cells -/
theorem ba_used {c t : Nat} {cy lv : Nat → Int32} (L : ba_Live c t lv) (post : Int32 → Prop) (hp : post (nI t)) : ∀ d i m : Nat, i + d = c → ((i ≤ t ∧ m = i) ∨ (t ≤ i ∧ m = t)) → wY_used_4 post (nI c) cy lv (d + 1) (nI m) (nI i) := by
  obtain ⟨h1, h2, hl, hd⟩ := L
  intro d
  induction d with
  | zero =>
    intro i m hi hm
    have e : m = t := by omega
    have e2 : i = c := by omega
    subst e e2
    exact br_t (nI_le (Nat.le_refl _) (by omega)) hp
  | succ d ih =>
    intro i m hi hm
    have hc : ¬ nI c ≤ nI i := nI_ge (by omega) (by omega)
    have hn : vp_in (nI i) 64 := vp_in_nI (by omega) (by omega)
    have hk : (nI i).toNatClampNeg = i := nI_clamp (by omega)
    refine br_f hc ⟨hn, ?_⟩
    by_cases g : i < t
    · have z : lv (nI i).toNatClampNeg = 1 := by rw [hk]; exact hl i g
      exact br_t z (nm_r (nI_1 m) (nm_r (nI_1 i) (ih (i + 1) (m + 1) (by omega) (by omega))))
    · have z : ¬ lv (nI i).toNatClampNeg = 1 := by rw [hk, hd i (by omega) (by omega)]; decide
      exact br_f z (nm_r (nI_1 i) (ih (i + 1) m (by omega) (by omega)))
theorem ba_usedW {c t : Nat} {cy lv : Nat → Int32} (L : ba_Live c t lv) {post : Int32 → Prop} (hp : post (nI t)) : wpY_used post (nI c, cy, lv) :=
  ⟨c + 1, ba_used L post hp c 0 0 (by omega) (Or.inl ⟨Nat.zero_le _, rfl⟩)⟩
/-- X's loop of alloc -/
theorem ba_xal {post : Int32 → SX → Prop} {x2 fc ft : Int32} {e : Nat} (he : e ≤ 64) : ∀ (d i : Nat) (a : Nat → Int32), i + d = e → post x2 (fc, nI e, ba_fill a i e 0) → wX_alloc_32 post x2 (nI e) fc ft (d + 1) (nI i) a := by
  intro d
  induction d with
  | zero =>
    intro i a hi hp
    have e2 : i = e := by omega
    subst e2
    rw [ba_fill_0] at hp
    exact br_t (nI_le (Nat.le_refl _) (by omega)) hp
  | succ d ih =>
    intro i a hi hp
    have hc : ¬ nI e ≤ nI i := nI_ge (by omega) (by omega)
    have hn : vp_in (nI i) 64 := vp_in_nI (by omega) (by omega)
    have hk : (nI i).toNatClampNeg = i := nI_clamp (by omega)
    have hu : upd a (nI i).toNatClampNeg 0 = upd a i 0 := by rw [hk]
    refine br_f hc ⟨hn, nm_r hu (nm_r (nI_1 i) (ih (i + 1) (upd a i 0) (by omega) ?_))⟩
    rw [ba_fill_s a (by omega)]
    exact hp
/-- the reference's loop of alloc -/
theorem ba_yal {post : Int32 → SY → Prop} {x1 x2 fs : Int32} {e : Nat} (he : e ≤ 64) (hx : x2 + x1 = nI e) : ∀ (d i : Nat) (a b : Nat → Int32), i + d = e → post x2 (fs, ba_fill a i e 0, ba_fill b i e 1) → wY_alloc_26 post x1 x2 fs (d + 1) (nI i) a b := by
  intro d
  induction d with
  | zero =>
    intro i a b hi hp
    have e2 : i = e := by omega
    subst e2
    rw [ba_fill_0, ba_fill_0] at hp
    have hc : x2 + x1 ≤ nI i := by rw [hx]; exact nI_le (Nat.le_refl _) (by omega)
    exact br_t hc hp
  | succ d ih =>
    intro i a b hi hp
    have hc : ¬ x2 + x1 ≤ nI i := by rw [hx]; exact nI_ge (by omega) (by omega)
    have hn : vp_in (nI i) 64 := vp_in_nI (by omega) (by omega)
    have hk : (nI i).toNatClampNeg = i := nI_clamp (by omega)
    have hu : upd a (nI i).toNatClampNeg 0 = upd a i 0 := by rw [hk]
    have hv : upd b (nI i).toNatClampNeg 1 = upd b i 1 := by rw [hk]
    refine br_f hc ⟨hn, nm_r hv ⟨hn, nm_r hu (nm_r (nI_1 i) (ih (i + 1) (upd a i 0) (upd b i 1) (by omega) ?_))⟩⟩
    rw [ba_fill_s a (by omega), ba_fill_s b (by omega)]
    exact hp
/-- the reference's loop of release -/
theorem ba_yre {post : Int32 → SY → Prop} {c : Nat} (he : c ≤ 64) : ∀ (d i : Nat) (a b : Nat → Int32), i + d = c → post 0 (nI c, ba_fill a i c 0, ba_fill b i c 0) → wY_release_16 post (nI c) (d + 1) (nI i) a b := by
  intro d
  induction d with
  | zero =>
    intro i a b hi hp
    have e2 : i = c := by omega
    subst e2
    rw [ba_fill_0, ba_fill_0] at hp
    exact br_t (nI_le (Nat.le_refl _) (by omega)) hp
  | succ d ih =>
    intro i a b hi hp
    have hc : ¬ nI c ≤ nI i := nI_ge (by omega) (by omega)
    have hn : vp_in (nI i) 64 := vp_in_nI (by omega) (by omega)
    have hk : (nI i).toNatClampNeg = i := nI_clamp (by omega)
    have hu : upd a (nI i).toNatClampNeg 0 = upd a i 0 := by rw [hk]
    have hv : upd b (nI i).toNatClampNeg 0 = upd b i 0 := by rw [hk]
    refine br_f hc ⟨hn, nm_r hv ⟨hn, nm_r hu (nm_r (nI_1 i) (ih (i + 1) (upd a i 0) (upd b i 0) (by omega) ?_))⟩⟩
    rw [ba_fill_s a (by omega), ba_fill_s b (by omega)]
    exact hp
end
section
/-! the owed statements (their heads from claim/defs.txt) -/
/-- the cells up to t are equal, and those alone are live -/
def ba_Cell (t : Nat) (cx cy : Nat → Int32) : Prop := ∀ j, j < t → cy j = cx j
def i_Rel (_ : Nat) (u : SX) (v : SY) : Prop := ∃ (c t : Nat) (cx cy lv : Nat → Int32), u = (nI c, nI t, cx) ∧ v = (nI c, cy, lv) ∧ ba_Live c t lv ∧ ba_Cell t cx cy
theorem ba_rel {k c t : Nat} {cx cy lv : Nat → Int32} (L : ba_Live c t lv) (C : ba_Cell t cx cy) : i_Rel k (nI c, nI t, cx) (nI c, cy, lv) := ⟨c, t, cx, cy, lv, rfl, rfl, L, C⟩
theorem i_up {k : Nat} {u : SX} {v : SY} (h : i_Rel k u v) : i_Rel (k + 3) u v := h
theorem ba_rel0 {k c : Nat} {x : Int32} (hx : x = nI c) (hc : c ≤ 64) : i_Rel k (x, 0, fun _ => 0) (x, (fun _ => 0), fun _ => 0) :=
  ⟨c, 0, fun _ => 0, fun _ => 0, fun _ => 0, by rw [hx, nI_0], by rw [hx], ⟨Nat.zero_le _, hc, fun j h => absurd h (by omega), fun _ _ _ => rfl⟩, fun _ _ => rfl⟩
theorem i_vc0 (k0 : Int32) : wpX_init (fun u => wpY_init (fun v => i_Rel 1 u v) k0) k0 := by
  by_cases h0 : 0 ≤ k0
  · by_cases h6 : k0 ≤ 64
    · obtain ⟨j, hj, e⟩ := nI_of2 (x := k0) (M := 64) (n := 64) (by decide) (Int32.not_lt.mpr h0) h6
      exact br_t h0 (br_t h6 (br_t h0 (br_t h6 (ba_rel0 (k := 1) e hj))))
    · exact br_t h0 (br_f h6 (br_t h0 (br_f h6 (ba_rel0 (k := 1) ba_64.symm (Nat.le_refl _)))))
  · have h6 : (0 : Int32) ≤ 64 := by decide
    exact br_f h0 (br_t h6 (br_f h0 (ba_rel0 (k := 1) nI_0.symm (Nat.zero_le _))))
theorem i_vc_alloc {k : Nat} {u : SX} {v : SY} (I : i_Rel k u v) (hk : k + 3 ≤ 1537) (v1 : Int32) : wpX_alloc (fun r u' => wpY_alloc (fun r' v' => r' = r ∧ i_Rel (k + 3) u' v') v v1) u v1 := by
  obtain ⟨c, t, cx, cy, lv, rfl, rfl, L, C⟩ := I
  by_cases h1 : v1 < 1
  · refine br_t h1 (ba_usedW L ?_)
    exact br_f (Int32.not_le.mpr h1) ⟨rfl, ba_rel (k := k + 3) L C⟩
  · have h1' : (1 : Int32) ≤ v1 := Int32.not_lt.mp h1
    have h0 : ¬ v1 < 0 := Int32.not_lt.mpr (Int32.le_trans (by decide) h1')
    obtain ⟨s, hs, rfl⟩ := nI_of h0
    have L' := L
    obtain ⟨g1, g2, gl, gd⟩ := L'
    have es : nI c - nI t = nI (c - t) := pk_sub g1
    have h1s : 1 ≤ s := by
      have q : nI 1 ≤ nI s := by rw [ba_one]; exact h1'
      exact (nI_leI (by omega) hs).mp q
    by_cases h2 : s ≤ c - t
    · have h2' : nI s ≤ nI c - nI t := by rw [es]; exact nI_le h2 (by omega)
      refine br_f h1 (br_t h2' (nm_r (nI_add t s) ⟨s + 1, ba_xal (by omega) s t cx rfl ?_⟩))
      refine ba_usedW L ?_
      refine br_t h1' (br_t h2' ⟨s + 1, ba_yal (e := t + s) (by omega) (nI_add t s) s t cy lv rfl ?_⟩)
      refine ⟨rfl, ba_rel (k := k + 3) ⟨by omega, g2, ?_, ?_⟩ ?_⟩
      · intro j hj
        by_cases q : j < t
        · rw [ba_fill_lo q]; exact gl j q
        · exact ba_fill_in (by omega) hj
      · intro j hj hc
        rw [ba_fill_hi hj]; exact gd j (by omega) hc
      · intro j hj
        by_cases q : j < t
        · rw [ba_fill_lo q, ba_fill_lo q]; exact C j q
        · rw [ba_fill_in (by omega) hj, ba_fill_in (by omega) hj]
    · have h2' : ¬ nI s ≤ nI c - nI t := by rw [es]; exact nI_ge (by omega) hs
      refine br_f h1 (br_f h2' (ba_usedW L ?_))
      exact br_t h1' (br_f h2' ⟨rfl, ba_rel (k := k + 3) L C⟩)
theorem i_vc_write {k : Nat} {u : SX} {v : SY} (I : i_Rel k u v) (hk : k + 3 ≤ 1537) (v1 : Int32) (v2 : Int32) : wpX_write (fun r u' => wpY_write (fun r' v' => r' = r ∧ i_Rel (k + 3) u' v') v v1 v2) u v1 v2 := by
  obtain ⟨c, t, cx, cy, lv, rfl, rfl, L, C⟩ := I
  by_cases h0 : v1 < 0
  · exact br_t h0 (br_t h0 ⟨rfl, ba_rel (k := k + 3) L C⟩)
  · obtain ⟨s, hs, rfl⟩ := nI_of h0
    have L' := L
    obtain ⟨g1, g2, gl, gd⟩ := L'
    have ek : (nI s).toNatClampNeg = s := nI_clamp hs
    by_cases h1 : s < t
    · have a1 : nI s < nI t := nI_lt h1 (by omega)
      have a2 : nI s < nI c := nI_lt (by omega) (by omega)
      have hn : vp_in (nI s) 64 := vp_in_nI (by omega) (by omega)
      have z : ¬ lv (nI s).toNatClampNeg = 0 := by rw [ek, gl s h1]; decide
      have hu : upd cx (nI s).toNatClampNeg v2 = upd cx s v2 := by rw [ek]
      have hv : upd cy (nI s).toNatClampNeg v2 = upd cy s v2 := by rw [ek]
      refine br_f h0 (br_t a1 ⟨hn, nm_r hu ?_⟩)
      refine br_f h0 (br_t a2 ⟨hn, br_f z ⟨hn, nm_r hv ⟨rfl, ba_rel (k := k + 3) L ?_⟩⟩⟩)
      intro j hj
      show (if j = s then v2 else cy j) = (if j = s then v2 else cx j)
      rw [C j hj]
    · have a1 : ¬ nI s < nI t := nI_nlt (by omega) hs
      by_cases h2 : s < c
      · have a2 : nI s < nI c := nI_lt h2 (by omega)
        have hn : vp_in (nI s) 64 := vp_in_nI (by omega) (by omega)
        have z : lv (nI s).toNatClampNeg = 0 := by rw [ek]; exact gd s (by omega) h2
        exact br_f h0 (br_f a1 (br_f h0 (br_t a2 ⟨hn, br_t z ⟨rfl, ba_rel (k := k + 3) L C⟩⟩)))
      · have a2 : ¬ nI s < nI c := nI_nlt (by omega) hs
        exact br_f h0 (br_f a1 (br_f h0 (br_f a2 ⟨rfl, ba_rel (k := k + 3) L C⟩)))
theorem i_vc_read {k : Nat} {u : SX} {v : SY} (I : i_Rel k u v) (hk : k + 3 ≤ 1537) (v1 : Int32) : wpX_read (fun r => wpY_read (fun r' => r' = r ∧ i_Rel (k + 3) u v) v v1) u v1 := by
  obtain ⟨c, t, cx, cy, lv, rfl, rfl, L, C⟩ := I
  by_cases h0 : v1 < 0
  · exact br_t h0 (br_t h0 ⟨rfl, ba_rel (k := k + 3) L C⟩)
  · obtain ⟨s, hs, rfl⟩ := nI_of h0
    have L' := L
    obtain ⟨g1, g2, gl, gd⟩ := L'
    have ek : (nI s).toNatClampNeg = s := nI_clamp hs
    by_cases h1 : s < t
    · have a1 : nI s < nI t := nI_lt h1 (by omega)
      have a2 : nI s < nI c := nI_lt (by omega) (by omega)
      have hn : vp_in (nI s) 64 := vp_in_nI (by omega) (by omega)
      have z : ¬ lv (nI s).toNatClampNeg = 0 := by rw [ek, gl s h1]; decide
      have he : cy (nI s).toNatClampNeg = cx (nI s).toNatClampNeg := by rw [ek]; exact C s h1
      exact br_f h0 (br_t a1 ⟨hn, br_f h0 (br_t a2 ⟨hn, br_f z ⟨hn, he, ba_rel (k := k + 3) L C⟩⟩)⟩)
    · have a1 : ¬ nI s < nI t := nI_nlt (by omega) hs
      by_cases h2 : s < c
      · have a2 : nI s < nI c := nI_lt h2 (by omega)
        have hn : vp_in (nI s) 64 := vp_in_nI (by omega) (by omega)
        have z : lv (nI s).toNatClampNeg = 0 := by rw [ek]; exact gd s (by omega) h2
        exact br_f h0 (br_f a1 (br_f h0 (br_t a2 ⟨hn, br_t z ⟨rfl, ba_rel (k := k + 3) L C⟩⟩)))
      · have a2 : ¬ nI s < nI c := nI_nlt (by omega) hs
        exact br_f h0 (br_f a1 (br_f h0 (br_f a2 ⟨rfl, ba_rel (k := k + 3) L C⟩)))
theorem i_vc_release {k : Nat} {u : SX} {v : SY} (I : i_Rel k u v) (hk : k + 3 ≤ 1537) (v1 : Int32) : wpX_release (fun r u' => wpY_release (fun r' v' => r' = r ∧ i_Rel (k + 3) u' v') v v1) u v1 := by
  obtain ⟨c, t, cx, cy, lv, rfl, rfl, L, C⟩ := I
  by_cases h0 : v1 < 0
  · exact br_t h0 (br_t h0 ⟨rfl, ba_rel (k := k + 3) L C⟩)
  · obtain ⟨s, hs, rfl⟩ := nI_of h0
    have L' := L
    obtain ⟨g1, g2, gl, gd⟩ := L'
    by_cases h1 : s ≤ t
    · have a1 : nI s ≤ nI t := nI_le h1 (by omega)
      refine br_f h0 (br_t a1 (br_f h0 (ba_usedW L ?_)))
      refine br_t a1 ⟨c - s + 1, ba_yre g2 (c - s) s cy lv (by omega) ?_⟩
      refine ⟨rfl, ba_rel (k := k + 3) ⟨by omega, g2, ?_, ?_⟩ ?_⟩
      · intro j hj
        rw [ba_fill_lo hj]; exact gl j (by omega)
      · intro j hj hc
        exact ba_fill_in hj hc
      · intro j hj
        rw [ba_fill_lo hj]; exact C j (by omega)
    · have a1 : ¬ nI s ≤ nI t := nI_ge (by omega) hs
      refine br_f h0 (br_f a1 (br_f h0 (ba_usedW L ?_)))
      exact br_f a1 ⟨rfl, ba_rel (k := k + 3) L C⟩
theorem i_vc_used {k : Nat} {u : SX} {v : SY} (I : i_Rel k u v) (hk : k + 3 ≤ 1537) : wpX_used (fun r => wpY_used (fun r' => r' = r ∧ i_Rel (k + 3) u v) v) u := by
  obtain ⟨c, t, cx, cy, lv, rfl, rfl, L, C⟩ := I
  exact ba_usedW L ⟨rfl, ba_rel (k := k + 3) L C⟩
end
