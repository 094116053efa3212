section
/-- one advance of the component's state (u, v, count) -/
def ls_st (s : SX) : SX := if (s.1 &&& (-s.1)) = s.2.1 then (s.1 + 1, 1, s.2.2 + 1) else (s.1, 2 * s.2.1, s.2.2 + 1)
/-- m advances -/
def ls_it : Nat → SX → SX
  | 0, s => s
  | n + 1, s => ls_it n (ls_st s)
theorem ls_it_succ : ∀ (m : Nat) (s : SX), ls_it (m + 1) s = ls_st (ls_it m s) := by
  intro m
  induction m with
  | zero => intro s; rfl
  | succ m ih => intro s; exact ih (ls_st s)
/-- the reference's second loop, run with fuel: does it end with the answer r -/
def ls_27 (r : Int64) : Nat → Int64 → Int64 → Int32 → Bool
  | 0, _, _, _ => false
  | n + 1, x1, x3, x5 =>
    if (x3 - 1) = x1 then decide (((1 : Int64) <<< (x5.toInt64 &&& 63)) = r)
    else if ((x3 - 1) >>> ((1 : Int32).toInt64 &&& 63)) = 0 then false
    else ls_27 r n (x1 - x1 / ((x3 - 1) >>> ((1 : Int32).toInt64 &&& 63)) * ((x3 - 1) >>> ((1 : Int32).toInt64 &&& 63))) ((x3 - 1) >>> ((1 : Int32).toInt64 &&& 63)) (x5 + (-1))
/-- the reference's first loop, run with fuel, and the second behind it -/
def ls_5 (r x1 : Int64) : Nat → Int64 → Int32 → Bool
  | 0, _, _ => false
  | n + 1, x3, x5 => if (x1 + 1) ≤ x3 then ls_27 r 16 x1 x3 x5 else ls_5 r x1 n ((2 * x3) + 1) (x5 + 1)
theorem ls_27_ok {post : Int64 → Prop} {f r : Int64} (hr : post r) : ∀ (n : Nat) (x1 x3 : Int64) (x5 : Int32), ls_27 r n x1 x3 x5 = true → wY_term_27 post f n x1 x3 x5 := by
  intro n
  induction n with
  | zero => intro x1 x3 x5 h; exact absurd h (by simp [ls_27])
  | succ n ih =>
    intro x1 x3 x5 h
    rw [ls_27] at h
    by_cases h1 : (x3 - 1) = x1
    · rw [if_pos h1] at h
      refine br_t h1 ?_
      rw [of_decide_eq_true h]
      exact hr
    · rw [if_neg h1] at h
      by_cases h2 : ((x3 - 1) >>> ((1 : Int32).toInt64 &&& 63)) = 0
      · rw [if_pos h2] at h
        exact absurd h (by decide)
      · rw [if_neg h2] at h
        refine br_f h1 (fun y ey z ez => ?_)
        subst ey
        subst ez
        refine ⟨h2, fun w ew => ?_⟩
        subst ew
        exact ih _ _ _ h
theorem ls_5_ok {post : Int64 → Prop} {f r x1 : Int64} (hr : post r) : ∀ (n : Nat) (x3 : Int64) (x5 : Int32), ls_5 r x1 n x3 x5 = true → wY_term_5 post x1 f n x3 x5 := by
  intro n
  induction n with
  | zero => intro x3 x5 h; exact absurd h (by simp [ls_5])
  | succ n ih =>
    intro x3 x5 h
    rw [ls_5] at h
    by_cases h1 : (x1 + 1) ≤ x3
    · rw [if_pos h1] at h
      exact br_t h1 ⟨16, ls_27_ok hr 16 x1 x3 x5 h⟩
    · rw [if_neg h1] at h
      refine br_f h1 (fun y ey z ez => ?_)
      subst ey
      subst ez
      exact ih _ _ h
/-- the reference's term at x answers r -/
theorem ls_term {post : Int64 → Prop} {f r x : Int64} (h : ls_5 r x 16 1 0 = true) (hr : post r) : wpY_term post f x :=
  ⟨16, ls_5_ok hr 16 1 0 h⟩
end
section
/-- at each of the next n states the reference's term at the count is the component's v -/
def ls_ck : Nat → SX → Bool
  | 0, _ => true
  | n + 1, s => ls_5 s.2.1 s.2.2 16 1 0 && ls_ck n (ls_st s)
theorem ls_ck_at : ∀ (n : Nat) (s : SX), ls_ck n s = true → ∀ m, m < n → ls_5 (ls_it m s).2.1 (ls_it m s).2.2 16 1 0 = true := by
  intro n
  induction n with
  | zero => intro s _ m hm; exact absurd hm (Nat.not_lt_zero m)
  | succ n ih =>
    intro s h m hm
    rw [ls_ck, Bool.and_eq_true] at h
    cases m with
    | zero => exact h.1
    | succ m => exact ih (ls_st s) h.2 m (Nat.lt_of_succ_lt_succ hm)
set_option maxRecDepth 100000 in
theorem ls_ck_512 : ls_ck 512 (1, 1, 0) = true := by decide +kernel
end
section
/-- after m advances since the last reset, m at most half of the turn's first cell: the component stands m advances behind its start, and the reference's n is its count -/
def i_Rel (k : Nat) (u : SX) (v : SY) : Prop := ∃ m : Nat, 2 * m ≤ k ∧ u = ls_it m (1, 1, 0) ∧ v = u.2.2
theorem i_up {k : Nat} {u : SX} {v : SY} (h : i_Rel k u v) : i_Rel (k + 2) u v := by
  obtain ⟨m, hm, hu, hv⟩ := h
  exact ⟨m, by omega, hu, hv⟩
theorem ls_rel {k : Nat} {u : SX} {v : SY} (I : i_Rel k u v) (hk : k + 2 ≤ 1024) : ls_5 u.2.1 v 16 1 0 = true := by
  obtain ⟨m, hm, hu, hv⟩ := I
  rw [hv, hu]
  exact ls_ck_at 512 (1, 1, 0) ls_ck_512 m (by omega)
theorem ls_nxt {k : Nat} {u : SX} {v : SY} (I : i_Rel k u v) : i_Rel (k + 2) (ls_st u) (ls_st u).2.2 := by
  obtain ⟨m, hm, hu, hv⟩ := I
  exact ⟨m + 1, by omega, by rw [ls_it_succ, hu], rfl⟩
theorem ls_new (k : Nat) : i_Rel k (1, 1, 0) 0 := ⟨0, by omega, rfl, rfl⟩
theorem ls_cnt {k : Nat} {a b c : Int64} {v : SY} (I : i_Rel k (a, b, c) v) : v = c := by
  obtain ⟨m, hm, hu, hv⟩ := I
  exact hv
theorem i_vc0 : wpX_init (fun u => wpY_init (fun v => i_Rel 0 u v)) := ls_new 0
theorem i_vc_next {k : Nat} {u : SX} {v : SY} (I : i_Rel k u v) (hk : k + 2 ≤ 1024) : wpX_next (fun r u' => wpY_next (fun r' v' => r' = r ∧ i_Rel (k + 2) u' v') v) u := by
  have hT := ls_rel I hk
  have hN := ls_nxt I
  obtain ⟨a, b, c⟩ := u
  cases ls_cnt I
  by_cases h : (a &&& (-a)) = b
  · have e : ls_st (a, b, v) = (a + 1, 1, v + 1) := if_pos h
    rw [e] at hN
    refine br_t h (fun a' ea c' ec n' en => ?_)
    subst ea
    subst ec
    subst en
    refine ls_term (r := b) hT ?_
    exact ⟨rfl, hN⟩
  · have e : ls_st (a, b, v) = (a, 2 * b, v + 1) := if_neg h
    rw [e] at hN
    refine br_f h (fun b' eb c' ec n' en => ?_)
    subst eb
    subst ec
    subst en
    refine ls_term (r := b) hT ?_
    exact ⟨rfl, hN⟩
theorem i_vc_reset {k : Nat} {u : SX} {v : SY} (I : i_Rel k u v) (hk : k + 2 ≤ 1024) : wpX_reset (fun r u' => wpY_reset (fun r' v' => r' = r ∧ i_Rel (k + 2) u' v') v) u := by
  obtain ⟨a, b, c⟩ := u
  exact ⟨ls_cnt I, ls_new (k + 2)⟩
theorem i_vc_limit {k : Nat} {u : SX} {v : SY} (I : i_Rel k u v) (hk : k + 2 ≤ 1024) (v1 : Int32) : wpX_limit (fun r => wpY_limit (fun r' => r' = r ∧ i_Rel (k + 2) u v) v v1) u v1 := by
  have hT := ls_rel I hk
  have hU := i_up I
  obtain ⟨a, b, c⟩ := u
  cases ls_cnt I
  intro x ex
  by_cases h1 : x ≤ 2147483647
  · by_cases h2 : (-2147483648) ≤ x
    · refine br_t h1 (br_t h2 ?_)
      refine ls_term (r := b) hT ?_
      intro y ey
      cases ey.trans ex.symm
      exact br_t h1 (br_t h2 ⟨rfl, hU⟩)
    · refine br_t h1 (br_f h2 ?_)
      refine ls_term (r := b) hT ?_
      intro y ey
      cases ey.trans ex.symm
      exact br_t h1 (br_f h2 ⟨rfl, hU⟩)
  · refine br_f h1 ?_
    refine ls_term (r := b) hT ?_
    intro y ey
    cases ey.trans ex.symm
    exact br_f h1 ⟨rfl, hU⟩
theorem i_vc_steps {k : Nat} {u : SX} {v : SY} (I : i_Rel k u v) (hk : k + 2 ≤ 1024) : wpX_steps (fun r => wpY_steps (fun r' => r' = r ∧ i_Rel (k + 2) u v) v) u := by
  have hU := i_up I
  obtain ⟨a, b, c⟩ := u
  exact ⟨ls_cnt I, hU⟩
end
