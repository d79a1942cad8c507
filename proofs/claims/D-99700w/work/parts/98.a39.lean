/-! PURE: the port's pieces: numbers behind words, on both sides -/
section BB
variable {σ : Cs} {τ : Mm} {ch : Nat → Nat} {E p d g : Nat} {b dd : Int32}
/-- the reference: a number behind a word -/
theorem T_after_s (h : TB τ ch E) (hp : p ≤ E) {i : Nat} (hi : lenS.getD i 0 ≤ 40) (lo hi' : Int32) : (wq ch E p i = true ∧ numOk ch E (wnd ch E p) lo hi' = true → X7_after (td τ p dd (-1)) i lo hi' = some (nI (numV ch E (wnd ch E p)), td τ (dnd ch E (wnd ch E p)) dd (-1))) ∧ (wq ch E p i = true ∧ numOk ch E (wnd ch E p) lo hi' = false → ∃ (v : Int32) (q : Nat), q ≤ E ∧ X7_after (td τ p dd (-1)) i lo hi' = some (v, td τ q dd (nI (skp ch E (wnd ch E p))))) ∧ (wq ch E p i = false → X7_after (td τ p dd (-1)) i lo hi' = some (0, td τ (skp ch E p) dd (nI (skp ch E p)))) := by
  have hE := h.2.1
  have h0 := skp_le (ch := ch) hp
  have h1 := wnd_le (ch := ch) hp
  unfold X7_after
  rw [td_12, if_pos rfl, T_has h hp i hi, obs]
  refine ⟨fun c => ?_, fun c => ?_, fun c => ?_⟩
  · have := (T_figures (dd := dd) h h1 lo hi').1 c.2
    rw [c.1, if_pos rfl, if_neg b01T, this, obs]
  · obtain ⟨v, q, hq, e⟩ := (T_figures (dd := dd) h h1 lo hi').2 c.2
    rw [c.1, if_pos rfl, if_neg b01T, e, obs]
    exact ⟨v, q, hq, rfl⟩
  · rw [c, if_neg (show ¬ false = true by decide), if_pos b01F]
    simp only [td_11]
    rw [T_wrong1, obs, T_figF (by omega), obs]
theorem T_afterF (hg : g < 2 ^ 31) {i : Nat} (lo hi' : Int32) : X7_after (td τ p dd (nI g)) i lo hi' = some (0, td τ p dd (nI g)) := by
  unfold X7_after
  rw [td_12, if_neg (nI_nm hg), T_figF hg, obs]
theorem T_maybe_s (h : TB τ ch E) (hp : p ≤ E) {i : Nat} (hi : lenS.getD i 0 ≤ 40) (lo hi' wo : Int32) : (wq ch E p i = true ∧ numOk ch E (wnd ch E p) lo hi' = true → X7_maybe (td τ p dd (-1)) i lo hi' wo = some (nI (numV ch E (wnd ch E p)), td τ (dnd ch E (wnd ch E p)) dd (-1))) ∧ (wq ch E p i = true ∧ numOk ch E (wnd ch E p) lo hi' = false → ∃ (v : Int32) (q : Nat), q ≤ E ∧ X7_maybe (td τ p dd (-1)) i lo hi' wo = some (v, td τ q dd (nI (skp ch E (wnd ch E p))))) ∧ (wq ch E p i = false → X7_maybe (td τ p dd (-1)) i lo hi' wo = some (wo, td τ (skp ch E p) dd (-1))) := by
  have h1 := wnd_le (ch := ch) hp
  unfold X7_maybe
  rw [td_12, if_pos rfl, T_has h hp i hi, obs]
  refine ⟨fun c => ?_, fun c => ?_, fun c => ?_⟩
  · have := (T_figures (dd := dd) h h1 lo hi').1 c.2
    rw [c.1, if_pos rfl, if_neg b01T, this, obs]
  · obtain ⟨v, q, hq, e⟩ := (T_figures (dd := dd) h h1 lo hi').2 c.2
    rw [c.1, if_pos rfl, if_neg b01T, e, obs]
    exact ⟨v, q, hq, rfl⟩
  · rw [c, if_neg (show ¬ false = true by decide), if_pos b01F]
theorem T_maybeF (hg : g < 2 ^ 31) {i : Nat} (lo hi' wo : Int32) : X7_maybe (td τ p dd (nI g)) i lo hi' wo = some (wo, td τ p dd (nI g)) := by
  unfold X7_maybe
  rw [td_12, if_neg (nI_nm hg)]
end BB
