section
/-! the plain law: ids are natural numbers, each of 0 .. t another; the mark is the place of the saved id, or -1 -/
theorem sv_m1 {d : Nat} (h : d < 2 ^ 31) : ¬ nI d = -1 := by
  intro e
  have a := nI_toInt h
  rw [e, show (-1 : Int32).toInt = -1 from by decide] at a
  omega
theorem sv_m1le {d : Nat} (h : d < 2 ^ 31) : (-1 : Int32) ≤ nI d := by
  rw [Int32.le_iff_toInt_le, nI_toInt h, show (-1 : Int32).toInt = -1 from by decide]
  omega
theorem sv_8 : nI 8 = 8 := by decide +kernel
/-- the mark m is the place in 0 .. t where the id s lies, or -1 if it lies nowhere there -/
def sv_Mark (t s : Nat) (g : Nat → Nat) (m : Int32) : Prop := (∃ p, p ≤ t ∧ m = nI p ∧ g p = s) ∨ (m = -1 ∧ ∀ j, j ≤ t → g j ≠ s)
/-- the picture without the depth: t the top, n the last id given out (at most k), s the saved id, g the ids, m the mark -/
def sv_Pic (k t n s : Nat) (g : Nat → Nat) (m : Int32) : Prop := t ≤ 8 ∧ n ≤ k ∧ s ≤ n ∧ (∀ j, g j ≤ n) ∧ (∀ i j, i ≤ t → j ≤ t → g i = g j → i = j) ∧ sv_Mark t s g m
theorem sv_up {k t n s : Nat} {g : Nat → Nat} {m : Int32} (P : sv_Pic k t n s g m) : sv_Pic (k + 1) t n s g m := by
  obtain ⟨ht, hn, hs, hg, hi, hM⟩ := P
  exact ⟨ht, by omega, hs, hg, hi, hM⟩
theorem sv_mark {k t n s d : Nat} {g : Nat → Nat} {m : Int32} (P : sv_Pic k t n s g m) (hd : d ≤ t) : nI d = m ↔ g d = s := by
  obtain ⟨ht, hn, hs, hg, hi, hM⟩ := P
  rcases hM with ⟨p, hp, rfl, e⟩ | ⟨rfl, h⟩
  · rw [nI_eq (by omega) (by omega)]
    constructor
    · intro h
      rw [h]
      exact e
    · intro h
      exact hi d p hd hp (h.trans e.symm)
  · exact ⟨fun h0 => absurd h0 (sv_m1 (by omega)), fun h0 => absurd h0 (h d hd)⟩
/-- what save leaves: the mark at the depth, the saved id the one that lies there -/
theorem sv_save {k t n s d : Nat} {g : Nat → Nat} {m : Int32} (P : sv_Pic k t n s g m) (hd : d ≤ t) : sv_Pic (k + 1) t n (g d) g (nI d) := by
  obtain ⟨ht, hn, hs, hg, hi, hM⟩ := P
  exact ⟨ht, by omega, hg d, hg, hi, Or.inl ⟨d, hd, rfl, rfl⟩⟩
/-- no place of 0 .. t holds the saved id: the mark is -1 -/
theorem sv_none {k t n s : Nat} {g : Nat → Nat} {m : Int32} (P : sv_Pic k t n s g m) (h : ∀ q, q ≤ t → g q ≠ s) : m = -1 := by
  obtain ⟨ht, hn, hs, hg, hi, hM⟩ := P
  rcases hM with ⟨p, hp, e0, e⟩ | ⟨e, _⟩
  · exact absurd e (h p hp)
  · exact e
def sv_put (g : Nat → Nat) (p x : Nat) : Nat → Nat := fun j => if j = p then x else g j
theorem sv_put_s {g : Nat → Nat} {p x : Nat} : sv_put g p x p = x := if_pos rfl
theorem sv_put_n {g : Nat → Nat} {p x j : Nat} (h : ¬ j = p) : sv_put g p x j = g j := if_neg h
/-- what an edit leaves, by the two branches of the component -/
theorem sv_edit {k t n s d : Nat} {g : Nat → Nat} {m : Int32} (P : sv_Pic k t n s g m) (hd : d ≤ t) (h8 : d < 8) :
    (m ≤ nI d → sv_Pic (k + 1) (d + 1) (n + 1) s (sv_put g (d + 1) (n + 1)) m) ∧ (¬ m ≤ nI d → sv_Pic (k + 1) (d + 1) (n + 1) s (sv_put g (d + 1) (n + 1)) (-1)) := by
  obtain ⟨ht, hn, hs, hg, hi, hM⟩ := P
  have B : ∀ m' : Int32, sv_Mark (d + 1) s (sv_put g (d + 1) (n + 1)) m' → sv_Pic (k + 1) (d + 1) (n + 1) s (sv_put g (d + 1) (n + 1)) m' := by
    intro m' h
    refine ⟨by omega, by omega, by omega, ?_, ?_, h⟩
    · intro j
      by_cases e : j = d + 1
      · rw [e, sv_put_s]
        omega
      · rw [sv_put_n e]
        have := hg j
        omega
    · intro i j h1 h2 e
      by_cases ei : i = d + 1
      · by_cases ej : j = d + 1
        · omega
        · rw [ei, sv_put_s, sv_put_n ej] at e
          have := hg j
          omega
      · by_cases ej : j = d + 1
        · rw [ej, sv_put_s, sv_put_n ei] at e
          have := hg i
          omega
        · rw [sv_put_n ei, sv_put_n ej] at e
          exact hi i j (by omega) (by omega) e
  constructor
  · intro hle
    apply B
    rcases hM with ⟨p, hp, rfl, e⟩ | ⟨rfl, h⟩
    · rw [nI_leI (by omega) (by omega)] at hle
      refine Or.inl ⟨p, by omega, rfl, ?_⟩
      rw [sv_put_n (by omega)]
      exact e
    · refine Or.inr ⟨rfl, fun j hj => ?_⟩
      by_cases e : j = d + 1
      · rw [e, sv_put_s]
        omega
      · rw [sv_put_n e]
        exact h j (by omega)
  · intro hle
    apply B
    rcases hM with ⟨p, hp, rfl, e⟩ | ⟨rfl, h⟩
    · rw [nI_leI (by omega) (by omega)] at hle
      refine Or.inr ⟨rfl, fun j hj => ?_⟩
      by_cases ej : j = d + 1
      · rw [ej, sv_put_s]
        omega
      · rw [sv_put_n ej]
        intro ee
        have := hi j p (by omega) hp (ee.trans e.symm)
        omega
    · exact absurd (sv_m1le (by omega)) hle
/-- a small id is a short as it is -/
theorem sv_sh {n : Nat} (h : n < 32768) : (nI n).toInt16.toInt32 = nI n := by
  have e := nI_toInt (n := n) (by omega)
  exact lg_i2s_small (by omega) (by omega)
theorem sv_nar {n : Nat} (h : n < 32768) : narrow .short (.int (nI n)) = .int (nI n) := congrArg Value.int (sv_sh h)
theorem sv_fit {n : Nat} (h : n < 32768) : fits .short (.int (nI n)) = true := by
  have e := nI_toInt (n := n) (by omega)
  have h1 : (-32768 : Int32).toInt = -32768 := by decide
  have h2 : (32767 : Int32).toInt = 32767 := by decide
  simp only [fits, Bool.and_eq_true, decide_eq_true_eq, Int32.le_iff_toInt_le, h1, h2]
  omega
/-- the store of an edit -/
theorem sv_upd (g : Nat → Nat) {d n : Nat} (hd : d < 8) (hn : n < 32767) : upd (fun j => nI (g j)) (nI d + 1).toNatClampNeg (vp_nar .short ((nI n + 1).toInt16.toInt32)) = fun j => nI (sv_put g (d + 1) (n + 1) j) := by
  rw [nI_1, nI_1, nI_clamp (by omega), vp_nar_short, sv_sh (by omega), sv_sh (by omega)]
  funext j
  by_cases e : j = d + 1
  · rw [e, sv_put_s]
    exact if_pos rfl
  · rw [sv_put_n e]
    exact if_neg e
end
section
/-- the two objects: one depth, top = depth + redo, the mark the place of the saved id (sv_Pic); at most k ids have been given out -/
def i_Rel (k : Nat) (u : SX) (v : SY) : Prop := ∃ (d r t n s : Nat) (g : Nat → Nat) (m : Int32), t = d + r ∧ sv_Pic k t n s g m ∧ u = (nI d, nI r, m) ∧ v = (nI d, nI t, nI n, nI s, fun j => nI (g j))
theorem i_up {k : Nat} {u : SX} {v : SY} (h : i_Rel k u v) : i_Rel (k + 1) u v := by
  obtain ⟨d, r, t, n, s, g, m, et, P, eu, ev⟩ := h
  exact ⟨d, r, t, n, s, g, m, et, sv_up P, eu, ev⟩
theorem i_vc0 : wpX_init (fun u => wpY_init (fun v => i_Rel 0 u v)) :=
  ⟨0, 0, 0, 0, 0, fun _ => 0, 0, rfl, ⟨by omega, by omega, by omega, fun _ => Nat.le_refl 0, fun i j hi hj _ => by omega, Or.inl ⟨0, by omega, rfl, rfl⟩⟩, rfl, rfl⟩
theorem i_vc_edit {k : Nat} {u : SX} {v : SY} (I : i_Rel k u v) (hk : k + 1 ≤ 512) : wpX_edit (fun r u' => wpY_edit (fun r' v' => r' = r ∧ i_Rel (k + 1) u' v') v) u := by
  have J := i_up I
  obtain ⟨d, r, t, n, s, g, m, et, P, rfl, rfl⟩ := I
  by_cases h8 : nI d = 8
  · exact br_t h8 (br_t h8 ⟨rfl, J⟩)
  · have hP := P
    obtain ⟨ht, hn, hs, hg, hi, hM⟩ := hP
    have hd : d < 8 := by
      have : d ≠ 8 := fun e => h8 (by rw [e]; exact sv_8)
      omega
    have E := sv_edit P (d := d) (by omega) hd
    have K : ∀ m' : Int32, sv_Pic (k + 1) (d + 1) (n + 1) s (sv_put g (d + 1) (n + 1)) m' → wX_edit_27 (fun r u' => wpY_edit (fun r' v' => r' = r ∧ i_Rel (k + 1) u' v') (nI d, nI t, nI n, nI s, fun j => nI (g j))) (nI d) (nI r) m' := by
      intro m' hq
      refine nm_r (nI_1 d) ?_
      refine br_f h8 ?_
      refine nm_r (nI_1 d) ?_
      refine nm_r (nI_1 n) ?_
      refine ⟨by rw [nI_1]; exact vp_in_nI (by omega) (by omega), ?_⟩
      refine nm_r (sv_upd g hd (by omega)) ?_
      exact ⟨rfl, d + 1, 0, d + 1, n + 1, s, sv_put g (d + 1) (n + 1), m', rfl, hq, rfl, rfl⟩
    exact br_f h8 (br_c (fun h => K m (E.1 h)) (fun h => K (-1) (E.2 h)))
theorem i_vc_undo {k : Nat} {u : SX} {v : SY} (I : i_Rel k u v) (hk : k + 1 ≤ 512) : wpX_undo (fun r u' => wpY_undo (fun r' v' => r' = r ∧ i_Rel (k + 1) u' v') v) u := by
  have J := i_up I
  obtain ⟨d, r, t, n, s, g, m, et, P, rfl, rfl⟩ := I
  by_cases h0 : nI d = 0
  · exact br_t h0 (br_t h0 ⟨rfl, J⟩)
  · obtain ⟨c, rfl⟩ : ∃ c, d = c + 1 := by
      have : d ≠ 0 := fun e => h0 (by rw [e]; exact nI_0)
      exact ⟨d - 1, by omega⟩
    refine br_f h0 ?_
    refine nm_r (nI_pred c) ?_
    refine nm_r (nI_1 r) ?_
    refine br_f h0 ?_
    refine nm_r (nI_pred c) ?_
    exact ⟨rfl, c, r + 1, t, n, s, g, m, by omega, sv_up P, rfl, rfl⟩
theorem i_vc_redo {k : Nat} {u : SX} {v : SY} (I : i_Rel k u v) (hk : k + 1 ≤ 512) : wpX_redo (fun r u' => wpY_redo (fun r' v' => r' = r ∧ i_Rel (k + 1) u' v') v) u := by
  have J := i_up I
  obtain ⟨d, r, t, n, s, g, m, et, P, rfl, rfl⟩ := I
  have hP := P
  obtain ⟨ht, hn, hs, hg, hi, hM⟩ := hP
  by_cases h0 : nI r = 0
  · have hr : r = 0 := by
      rw [← nI_0, nI_eq (by omega) (by omega)] at h0
      exact h0
    have hd : nI d = nI t := by rw [et, hr]; rfl
    exact br_t h0 (br_t hd ⟨rfl, J⟩)
  · obtain ⟨c, rfl⟩ : ∃ c, r = c + 1 := by
      have : r ≠ 0 := fun e => h0 (by rw [e]; exact nI_0)
      exact ⟨r - 1, by omega⟩
    have hd : ¬ nI d = nI t := by
      rw [nI_eq (by omega) (by omega)]
      omega
    refine br_f h0 ?_
    refine nm_r (nI_1 d) ?_
    refine nm_r (nI_pred c) ?_
    refine br_f hd ?_
    refine nm_r (nI_1 d) ?_
    exact ⟨rfl, d + 1, c, t, n, s, g, m, by omega, sv_up P, rfl, rfl⟩
theorem sv_id {k t n s d : Nat} {g : Nat → Nat} {m : Int32} (P : sv_Pic k t n s g m) (hk : k + 1 ≤ 512) (hd : d ≤ t) : (fun j => nI (g j)) (nI d).toNatClampNeg = nI s ↔ nI d = m := by
  rw [sv_mark P hd]
  obtain ⟨ht, hn, hs, hg, hi, hM⟩ := P
  have h1 := hg d
  show nI (g (nI d).toNatClampNeg) = nI s ↔ g d = s
  rw [nI_clamp (by omega), nI_eq (by omega) (by omega)]
theorem i_vc_save {k : Nat} {u : SX} {v : SY} (I : i_Rel k u v) (hk : k + 1 ≤ 512) : wpX_save (fun r u' => wpY_save (fun r' v' => r' = r ∧ i_Rel (k + 1) u' v') v) u := by
  obtain ⟨d, r, t, n, s, g, m, et, P, rfl, rfl⟩ := I
  have hP := P
  obtain ⟨ht, hn, hs, hg, hi, hM⟩ := hP
  have hin : vp_in (nI d) 9 := vp_in_nI (by omega) (by omega)
  have hgd := hg d
  have K : ∀ z : Int32, wY_save_21 (fun r' v' => r' = z ∧ i_Rel (k + 1) (nI d, nI r, nI d) v') z (nI d) (nI t) (nI n) (nI s) (fun j => nI (g j)) := by
    intro z
    refine ⟨hin, ?_⟩
    refine nm_r (e' := nI (g d)) (by rw [nI_clamp (by omega)]) ?_
    exact ⟨sv_nar (by omega), sv_fit (by omega), rfl, d, r, t, n, g d, g, nI d, et, sv_save P (by omega), rfl, rfl⟩
  have E := sv_id P hk (d := d) (by omega)
  by_cases z : nI d = m
  · exact br_t z ⟨hin, br_t (E.mpr z) (K 0)⟩
  · exact br_f z ⟨hin, br_f (fun h => z (E.mp h)) (K 1)⟩
theorem i_vc_isDirty {k : Nat} {u : SX} {v : SY} (I : i_Rel k u v) (hk : k + 1 ≤ 512) : wpX_isDirty (fun r => wpY_isDirty (fun r' => r' = r ∧ i_Rel (k + 1) u v) v) u := by
  have J := i_up I
  obtain ⟨d, r, t, n, s, g, m, et, P, rfl, rfl⟩ := I
  have hP := P
  obtain ⟨ht, hn, hs, hg, hi, hM⟩ := hP
  have hin : vp_in (nI d) 9 := vp_in_nI (by omega) (by omega)
  have E := sv_id P hk (d := d) (by omega)
  by_cases z : nI d = m
  · exact br_t z ⟨hin, br_t (E.mpr z) ⟨rfl, J⟩⟩
  · exact br_f z ⟨hin, br_f (fun h => z (E.mp h)) ⟨rfl, J⟩⟩
theorem i_vc_depth {k : Nat} {u : SX} {v : SY} (I : i_Rel k u v) (hk : k + 1 ≤ 512) : wpX_depth (fun r => wpY_depth (fun r' => r' = r ∧ i_Rel (k + 1) u v) v) u := by
  have J := i_up I
  obtain ⟨d, r, t, n, s, g, m, et, P, rfl, rfl⟩ := I
  exact ⟨rfl, J⟩
/-- the reference's scan from place j on, none before j holding the saved id, answers the mark -/
theorem sv_scan {k t n s : Nat} {g : Nat → Nat} {m : Int32} (P : sv_Pic k t n s g m) (hk : k + 1 ≤ 512) (post : Int32 → Prop) (hp : post m) (fd : Int32) : ∀ e j : Nat, j + e = t + 1 → (∀ q, q < j → g q ≠ s) → wY_savedMark_2 post fd (nI t) (nI n) (nI s) (fun i => nI (g i)) (e + 1) (nI j) := by
  have hP := P
  obtain ⟨ht, hn, hs, hg, hi, hM⟩ := hP
  intro e
  induction e with
  | zero =>
    intro j hj hq
    have em : m = -1 := sv_none P (fun q h => hq q (by omega))
    exact br_t (nI_lt (by omega) (by omega)) (em ▸ hp)
  | succ e ih =>
    intro j hj hq
    have E := sv_id P hk (d := j) (by omega)
    refine br_f (nI_nlt (by omega) (by omega)) ⟨vp_in_nI (by omega) (by omega), ?_⟩
    by_cases z : nI j = m
    · exact br_t (E.mpr z) (z ▸ hp)
    · refine br_f (fun h => z (E.mp h)) ?_
      refine nm_r (nI_1 j) ?_
      refine ih (j + 1) (by omega) (fun q h => ?_)
      by_cases eq : q = j
      · rw [eq]
        exact fun h2 => z ((sv_mark P (by omega)).mpr h2)
      · exact hq q (by omega)
theorem i_vc_savedMark {k : Nat} {u : SX} {v : SY} (I : i_Rel k u v) (hk : k + 1 ≤ 512) : wpX_savedMark (fun r => wpY_savedMark (fun r' => r' = r ∧ i_Rel (k + 1) u v) v) u := by
  have J := i_up I
  obtain ⟨d, r, t, n, s, g, m, et, P, rfl, rfl⟩ := I
  exact ⟨t + 1 + 1, sv_scan P hk (fun r' => r' = m ∧ i_Rel (k + 1) (nI d, nI r, m) (nI d, nI t, nI n, nI s, fun j => nI (g j))) ⟨rfl, J⟩ (nI d) (t + 1) 0 (by omega) (fun q h => absurd h (by omega))⟩
end
