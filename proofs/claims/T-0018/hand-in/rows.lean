section
/-- one timer: not armed and the reference's cell negative, or armed and the two deadlines the same, not negative -/
def tw_C (a d e : Int32) : Prop := (a = 0 ∧ e < 0) ∨ (¬ a = 0 ∧ e = d ∧ ¬ e < 0)
/-- the timers below the count, one by one -/
def tw_R (c : Nat) (A D E : Nat → Int32) : Prop := ∀ j, j < c → tw_C (A j) (D j) (E j)
/-- the relation: the same count (0 to 32), the same clock (0 to 256), the timers alike -/
def i_Rel (_ : Nat) (u : SX) (v : SY) : Prop := ∃ (c t : Nat) (A D E : Nat → Int32), u = (nI c, nI t, A, D) ∧ v = (nI c, nI t, E) ∧ c ≤ 32 ∧ t ≤ 256 ∧ tw_R c A D E
theorem tw_mk {k c t : Nat} {A D E : Nat → Int32} (hc : c ≤ 32) (ht : t ≤ 256) (h : tw_R c A D E) : i_Rel k (nI c, nI t, A, D) (nI c, nI t, E) := ⟨c, t, A, D, E, rfl, rfl, hc, ht, h⟩
theorem tw_upd {c i : Nat} {A D E : Nat → Int32} {a d e : Int32} (h : tw_R c A D E) (hx : tw_C a d e) : tw_R c (upd A i a) (upd D i d) (upd E i e) := by
  intro j hj
  by_cases x : j = i
  · simp only [upd, if_pos x]; exact hx
  · simp only [upd, if_neg x]; exact h j hj
/-- the cell of a timer that was let go -/
theorem tw_off : tw_C (vp_nar .boolean 0) 0 (-1) := Or.inl ⟨rfl, by decide⟩
/-- the cell of a timer that was armed -/
theorem tw_on {n : Nat} (hn : n < 2 ^ 31) : tw_C (vp_nar .boolean 1) (nI n) (nI n) := Or.inr ⟨by show ¬ (1 : Int32) = 0; decide, rfl, nI_pos hn⟩
/-- the reference's constructor: -1 below the count -/
theorem tw_y0 {c : Nat} (hc : c ≤ 32) (post : SY → Prop) (h : ∀ E : Nat → Int32, (∀ j, j < c → E j = -1) → post (nI c, 0, E)) : ∃ m, wY_init_38 post (nI c) 0 m 0 (fun _ => 0) := by
  refine loop_0 (fun n i s => wY_init_38 post (nI c) 0 n (nI i) s) (fun i s => ∀ j, j < i → s j = -1) c (fun _ => 0) (fun j hj => absurd hj (Nat.not_lt_zero j)) ?_ ?_
  · intro n s hs
    exact br_t (nI_le (Nat.le_refl _) (by omega)) (h s hs)
  · intro n i s hi hs ih
    refine br_f (nI_ge hi (by omega)) ⟨vp_in_nI (by omega) (by decide), ?_⟩
    intro a ea x ex
    rw [ex, nI_1, ea, nI_clamp (by omega)]
    refine ih _ ?_
    intro j hj
    by_cases e : j = i
    · simp only [upd, if_pos e]
    · simp only [upd, if_neg e]; exact hs j (by omega)
/-- the best so far, both sides: none, or the same timer with its deadline -/
def tw_B (c : Nat) (D E : Nat → Int32) (x1 x2 : Int32) : Prop := x1 < 0 ∨ ∃ b : Nat, b < c ∧ x1 = nI b ∧ x2 = D b ∧ x2 = E b
/-- poll's scan from i on, in lockstep: one outcome for both sides -/
theorem tw_scan {c t : Nat} {A D E : Nat → Int32} (k : Nat) (hc : c ≤ 32) (ht : t ≤ 256) (hr : tw_R c A D E) : ∀ d i : Nat, i + d = c → ∀ x1 x2 : Int32, tw_B c D E x1 x2 → ∃ (r : Int32) (u' : SX) (v' : SY), i_Rel k u' v' ∧ (∀ post : Int32 → SX → Prop, post r u' → wX_poll_6 post (nI c) (nI t) A D (d + 1) x1 x2 (nI i)) ∧ (∀ post : Int32 → SY → Prop, post r v' → wY_poll_4 post (nI c) (nI t) E (d + 1) x1 (nI i)) := by
  intro d
  induction d with
  | zero =>
    intro i hi x1 x2 hB
    have hg : nI c ≤ nI i := nI_le (by omega) (by omega)
    rcases hB with hB | ⟨b, hb, rfl, _, _⟩
    · have h0 : ¬ 0 ≤ x1 := Int32.not_le.mpr hB
      exact ⟨-1, _, _, tw_mk hc ht hr, fun _ hp => br_t hg (br_f h0 hp), fun _ hp => br_t hg (br_f h0 hp)⟩
    · have h0 : 0 ≤ nI b := nI_pos' (by omega)
      have hin : vp_in (nI b) 32 := vp_in_nI (by omega) (by decide)
      have eb : (nI b).toNatClampNeg = b := nI_clamp (by omega)
      refine ⟨nI b, _, _, tw_mk hc ht (tw_upd (i := b) hr tw_off), fun _ hp => br_t hg (br_t h0 ⟨hin, fun a ea => ⟨hin, fun f ef => ?_⟩⟩), fun _ hp => br_t hg (br_t h0 ⟨hin, fun e ee => ?_⟩)⟩
      · rw [ea, ef, eb]; exact hp
      · rw [ee, eb]; exact hp
  | succ d ih =>
    intro i hi x1 x2 hB
    have hg : ¬ nI c ≤ nI i := nI_ge (by omega) (by omega)
    have hin : vp_in (nI i) 32 := vp_in_nI (by omega) (by decide)
    have ei : (nI i).toNatClampNeg = i := nI_clamp (by omega)
    have eA : A (nI i).toNatClampNeg = A i := by rw [ei]
    have eD : D (nI i).toNatClampNeg = D i := by rw [ei]
    have eE : E (nI i).toNatClampNeg = E i := by rw [ei]
    rcases hr i (by omega) with ⟨ha, he⟩ | ⟨ha, he, hn⟩
    · obtain ⟨r, u', v', hR, hX, hY⟩ := ih (i + 1) (by omega) x1 x2 hB
      rw [← eA] at ha
      rw [← eE] at he
      exact ⟨r, u', v', hR, fun post hp => br_f hg ⟨hin, br_t ha (nm_r (nI_1 i) (hX post hp))⟩, fun post hp => br_f hg ⟨hin, br_t he (nm_r (nI_1 i) (hY post hp))⟩⟩
    · have hED : E (nI i).toNatClampNeg = D (nI i).toNatClampNeg := by rw [eE, eD]; exact he
      rw [← eA] at ha
      rw [← eE] at hn
      by_cases hq : nI t < D (nI i).toNatClampNeg
      · obtain ⟨r, u', v', hR, hX, hY⟩ := ih (i + 1) (by omega) x1 x2 hB
        have hq' : nI t < E (nI i).toNatClampNeg := by rw [hED]; exact hq
        exact ⟨r, u', v', hR, fun post hp => br_f hg ⟨hin, br_f ha ⟨hin, br_t hq (nm_r (nI_1 i) (hX post hp))⟩⟩, fun post hp => br_f hg ⟨hin, br_f hn ⟨hin, br_t hq' (nm_r (nI_1 i) (hY post hp))⟩⟩⟩
      · have hq' : ¬ nI t < E (nI i).toNatClampNeg := by rw [hED]; exact hq
        have hN : tw_B c D E (nI i) (D i) := Or.inr ⟨i, by omega, rfl, rfl, he.symm⟩
        rcases hB with hB | ⟨b, hb, rfl, h2, h3⟩
        · obtain ⟨r, u', v', hR, hX, hY⟩ := ih (i + 1) (by omega) (nI i) (D i) hN
          exact ⟨r, u', v', hR, fun post hp => br_f hg ⟨hin, br_f ha ⟨hin, br_f hq (br_t hB (And.intro hin (nm_r eD (nm_r (nI_1 i) (hX post hp)))))⟩⟩, fun post hp => br_f hg ⟨hin, br_f hn ⟨hin, br_f hq' (br_t hB (nm_r (nI_1 i) (hY post hp)))⟩⟩⟩
        · have hb0 : ¬ nI b < 0 := nI_pos (by omega)
          have hbn : vp_in (nI b) 32 := vp_in_nI (by omega) (by decide)
          have eb : E (nI b).toNatClampNeg = x2 := by rw [nI_clamp (by omega)]; exact h3.symm
          by_cases hl : x2 ≤ D (nI i).toNatClampNeg
          · obtain ⟨r, u', v', hR, hX, hY⟩ := ih (i + 1) (by omega) (nI b) x2 (Or.inr ⟨b, hb, rfl, h2, h3⟩)
            have hl' : E (nI b).toNatClampNeg ≤ E (nI i).toNatClampNeg := by rw [eb, hED]; exact hl
            exact ⟨r, u', v', hR, fun post hp => br_f hg ⟨hin, br_f ha ⟨hin, br_f hq (br_f hb0 ⟨hin, br_t hl (nm_r (nI_1 i) (hX post hp))⟩)⟩⟩, fun post hp => br_f hg ⟨hin, br_f hn ⟨hin, br_f hq' (br_f hb0 ⟨hin, hbn, br_t hl' (nm_r (nI_1 i) (hY post hp))⟩)⟩⟩⟩
          · obtain ⟨r, u', v', hR, hX, hY⟩ := ih (i + 1) (by omega) (nI i) (D i) hN
            have hl' : ¬ E (nI b).toNatClampNeg ≤ E (nI i).toNatClampNeg := by rw [eb, hED]; exact hl
            exact ⟨r, u', v', hR, fun post hp => br_f hg ⟨hin, br_f ha ⟨hin, br_f hq (br_f hb0 ⟨hin, br_f hl (And.intro hin (nm_r eD (nm_r (nI_1 i) (hX post hp))))⟩)⟩⟩, fun post hp => br_f hg ⟨hin, br_f hn ⟨hin, br_f hq' (br_f hb0 ⟨hin, hbn, br_f hl' (nm_r (nI_1 i) (hY post hp))⟩)⟩⟩⟩
end
section
theorem i_up {k : Nat} {u : SX} {v : SY} (h : i_Rel k u v) : i_Rel (k + 3) u v := h
theorem tw_init {c : Nat} {E : Nat → Int32} (hc : c ≤ 32) (hE : ∀ j, j < c → E j = -1) : i_Rel 1 (nI c, 0, fun _ => 0, fun _ => 0) (nI c, 0, E) :=
  tw_mk (t := 0) hc (by decide) (fun j hj => Or.inl ⟨rfl, by rw [hE j hj]; decide⟩)
theorem i_vc0 (k0 : Int32) : wpX_init (fun u => wpY_init (fun v => i_Rel 1 u v) k0) k0 := by
  by_cases h0 : 0 ≤ k0
  · by_cases h1 : k0 ≤ 32
    · obtain ⟨c, hc, rfl⟩ := nI_of2 (M := 32) (n := 32) (by decide) (Int32.not_lt.mpr h0) h1
      exact br_t h0 (br_t h1 (br_t h0 (br_t h1 (tw_y0 hc _ (fun E hE => tw_init hc hE)))))
    · exact br_t h0 (br_f h1 (br_t h0 (br_f h1 (tw_y0 (c := 32) (by decide) _ (fun E hE => tw_init (c := 32) (by decide) hE)))))
  · exact br_f h0 (br_t (by decide) (br_f h0 (tw_y0 (c := 0) (by decide) _ (fun E hE => tw_init (c := 0) (by decide) hE))))
theorem i_vc_arm {k : Nat} {u : SX} {v : SY} (I : i_Rel k u v) (hk : k + 3 ≤ 1537) (v1 : Int32) (v2 : Int32) : wpX_arm (fun r u' => wpY_arm (fun r' v' => r' = r ∧ i_Rel (k + 3) u' v') v v1 v2) u v1 v2 := by
  obtain ⟨c, t, A, D, E, rfl, rfl, hc, ht, hr⟩ := I
  by_cases h0 : v1 < 0
  · exact br_t h0 (br_t h0 ⟨rfl, tw_mk hc ht hr⟩)
  by_cases h1 : v1 < nI c
  rotate_left
  · exact br_f h0 (br_f h1 (br_f h0 (br_f h1 ⟨rfl, tw_mk hc ht hr⟩)))
  by_cases h2 : v2 < 0
  · exact br_f h0 (br_t h1 (br_t h2 (br_f h0 (br_t h1 (br_t h2 ⟨rfl, tw_mk hc ht hr⟩)))))
  by_cases h3 : v2 ≤ 64
  rotate_left
  · exact br_f h0 (br_t h1 (br_f h2 (br_f h3 (br_f h0 (br_t h1 (br_f h2 (br_f h3 ⟨rfl, tw_mk hc ht hr⟩)))))))
  obtain ⟨j, hj, rfl⟩ := nI_of h0
  obtain ⟨d, hd, rfl⟩ := nI_of2 (M := 64) (n := 64) (by decide) h2 h3
  have hjc : j < c := (nI_ltI hj (by omega)).mp h1
  have hin : vp_in (nI j) 32 := vp_in_nI (by omega) (by decide)
  have ej : (nI j).toNatClampNeg = j := nI_clamp hj
  have eA : A (nI j).toNatClampNeg = A j := by rw [ej]
  have eE : E (nI j).toNatClampNeg = E j := by rw [ej]
  rcases hr j hjc with ⟨ha, he⟩ | ⟨ha, _, hn⟩
  · rw [← eA] at ha
    rw [← eE] at he
    refine br_f h0 (br_t h1 (br_f h2 (br_t h3 ⟨hin, br_t ha ⟨hin, fun a ea => ⟨hin, fun f ef => ?_⟩⟩⟩)))
    refine br_f h0 (br_t h1 (br_f h2 (br_t h3 ⟨hin, br_t he ⟨hin, fun e ee => ⟨rfl, ?_⟩⟩⟩)))
    rw [ea, ef, ee, ej, nI_add]
    exact tw_mk hc ht (tw_upd hr (tw_on (by omega)))
  · rw [← eA] at ha
    rw [← eE] at hn
    exact br_f h0 (br_t h1 (br_f h2 (br_t h3 ⟨hin, br_f ha (br_f h0 (br_t h1 (br_f h2 (br_t h3 ⟨hin, br_f hn ⟨rfl, tw_mk hc ht hr⟩⟩))))⟩)))
theorem i_vc_cancel {k : Nat} {u : SX} {v : SY} (I : i_Rel k u v) (hk : k + 3 ≤ 1537) (v1 : Int32) : wpX_cancel (fun r u' => wpY_cancel (fun r' v' => r' = r ∧ i_Rel (k + 3) u' v') v v1) u v1 := by
  obtain ⟨c, t, A, D, E, rfl, rfl, hc, ht, hr⟩ := I
  by_cases h0 : v1 < 0
  · exact br_t h0 (br_t h0 ⟨rfl, tw_mk hc ht hr⟩)
  by_cases h1 : v1 < nI c
  rotate_left
  · exact br_f h0 (br_f h1 (br_f h0 (br_f h1 ⟨rfl, tw_mk hc ht hr⟩)))
  obtain ⟨j, hj, rfl⟩ := nI_of h0
  have hjc : j < c := (nI_ltI hj (by omega)).mp h1
  have hin : vp_in (nI j) 32 := vp_in_nI (by omega) (by decide)
  have ej : (nI j).toNatClampNeg = j := nI_clamp hj
  have eA : A (nI j).toNatClampNeg = A j := by rw [ej]
  have eE : E (nI j).toNatClampNeg = E j := by rw [ej]
  rcases hr j hjc with ⟨ha, he⟩ | ⟨ha, _, hn⟩
  · rw [← eA] at ha
    rw [← eE] at he
    have he' : ¬ 0 ≤ E (nI j).toNatClampNeg := Int32.not_le.mpr he
    exact br_f h0 (br_t h1 ⟨hin, br_t ha (br_f h0 (br_t h1 ⟨hin, br_f he' ⟨rfl, tw_mk hc ht hr⟩⟩))⟩)
  · rw [← eA] at ha
    rw [← eE] at hn
    have hn' : 0 ≤ E (nI j).toNatClampNeg := Int32.not_lt.mp hn
    refine br_f h0 (br_t h1 ⟨hin, br_f ha ⟨hin, fun a ea => ⟨hin, fun f ef => ?_⟩⟩⟩)
    refine br_f h0 (br_t h1 ⟨hin, br_t hn' ⟨hin, fun e ee => ⟨rfl, ?_⟩⟩⟩)
    rw [ea, ef, ee, ej]
    exact tw_mk hc ht (tw_upd hr tw_off)
theorem i_vc_advance {k : Nat} {u : SX} {v : SY} (I : i_Rel k u v) (hk : k + 3 ≤ 1537) (v1 : Int32) : wpX_advance (fun r u' => wpY_advance (fun r' v' => r' = r ∧ i_Rel (k + 3) u' v') v v1) u v1 := by
  obtain ⟨c, t, A, D, E, rfl, rfl, hc, ht, hr⟩ := I
  by_cases h0 : v1 < 0
  · exact br_t h0 (br_t h0 ⟨rfl, tw_mk hc ht hr⟩)
  by_cases h1 : v1 ≤ 64
  rotate_left
  · exact br_f h0 (br_f h1 (br_f h0 (br_f h1 ⟨rfl, tw_mk hc ht hr⟩)))
  by_cases h2 : nI t + v1 ≤ 256
  rotate_left
  · exact br_f h0 (br_t h1 (br_f h2 (br_f h0 (br_t h1 (br_f h2 ⟨rfl, tw_mk hc ht hr⟩)))))
  obtain ⟨d, hd, rfl⟩ := nI_of2 (M := 64) (n := 64) (by decide) h0 h1
  have h3 : nI (t + d) ≤ nI 256 := by rw [← nI_add]; exact h2
  have h4 : t + d ≤ 256 := (nI_leI (by omega) (by decide)).mp h3
  exact br_f h0 (br_t h1 (br_t h2 (nm_r (nI_add t d) (br_f h0 (br_t h1 (br_t h2 (nm_r (nI_add t d) ⟨rfl, tw_mk hc h4 hr⟩)))))))
theorem i_vc_poll {k : Nat} {u : SX} {v : SY} (I : i_Rel k u v) (hk : k + 3 ≤ 1537) : wpX_poll (fun r u' => wpY_poll (fun r' v' => r' = r ∧ i_Rel (k + 3) u' v') v) u := by
  obtain ⟨c, t, A, D, E, rfl, rfl, hc, ht, hr⟩ := I
  obtain ⟨r, u', v', hR, hX, hY⟩ := tw_scan (k + 3) hc ht hr c 0 (Nat.zero_add c) (-1) 0 (Or.inl (by decide))
  exact ⟨c + 1, hX _ ⟨c + 1, hY _ ⟨rfl, hR⟩⟩⟩
theorem i_vc_deadline {k : Nat} {u : SX} {v : SY} (I : i_Rel k u v) (hk : k + 3 ≤ 1537) (v1 : Int32) : wpX_deadline (fun r => wpY_deadline (fun r' => r' = r ∧ i_Rel (k + 3) u v) v v1) u v1 := by
  obtain ⟨c, t, A, D, E, rfl, rfl, hc, ht, hr⟩ := I
  by_cases h0 : v1 < 0
  · exact br_t h0 (br_t h0 ⟨rfl, tw_mk hc ht hr⟩)
  by_cases h1 : v1 < nI c
  rotate_left
  · exact br_f h0 (br_f h1 (br_f h0 (br_f h1 ⟨rfl, tw_mk hc ht hr⟩)))
  obtain ⟨j, hj, rfl⟩ := nI_of h0
  have hjc : j < c := (nI_ltI hj (by omega)).mp h1
  have hin : vp_in (nI j) 32 := vp_in_nI (by omega) (by decide)
  have ej : (nI j).toNatClampNeg = j := nI_clamp hj
  have eA : A (nI j).toNatClampNeg = A j := by rw [ej]
  have eE : E (nI j).toNatClampNeg = E j := by rw [ej]
  rcases hr j hjc with ⟨ha, he⟩ | ⟨ha, hED, hn⟩
  · rw [← eA] at ha
    rw [← eE] at he
    have he' : ¬ 0 ≤ E (nI j).toNatClampNeg := Int32.not_le.mpr he
    exact br_f h0 (br_t h1 ⟨hin, br_t ha (br_f h0 (br_t h1 ⟨hin, br_f he' ⟨rfl, tw_mk hc ht hr⟩⟩))⟩)
  · rw [← eA] at ha
    rw [← eE] at hn
    have hn' : 0 ≤ E (nI j).toNatClampNeg := Int32.not_lt.mp hn
    have hv : E (nI j).toNatClampNeg = D (nI j).toNatClampNeg := by rw [ej]; exact hED
    exact br_f h0 (br_t h1 ⟨hin, br_f ha ⟨hin, br_f h0 (br_t h1 ⟨hin, br_t hn' ⟨hin, hv, tw_mk hc ht hr⟩⟩)⟩⟩)
end
