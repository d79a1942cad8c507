/-- a fresh string at x: the word that the reader of τ has scanned -/
def StrF (D : va_G) (J : Nat → ClassId) (N9 x va : Nat) (h0 z0 : Int32) (τ : Cs) (H : Heap) : Prop := N9 ≤ x ∧ x < va ∧ va_at D vwC (x, .inr (16, [.ref va, .int 0, .int h0, .int z0])) H ∧ va_at D vwC (byO J va (wlen τ) (wby τ)) H ∧ wlen τ ≤ 400
/-- whether it is the constant i -/
def weq (τ : Cs) (i : Nat) : Int32 := beq8 (wlen τ) (lenS.getD i 0) (wby τ) (sBy i)
theorem weq01 (τ : Cs) (i : Nat) : weq τ i = 0 ∨ weq τ i = 1 := beq8_01 _ _ _ _
def whash (τ : Cs) : Int32 := hsh (wby τ) (wlen τ)
theorem pr_e {a out : Po} {K C : Kc} (h : some (a, K) = some (out, C)) : out = a ∧ C = K := by
  cases h
  exact ⟨rfl, rfl⟩
theorem pcl_e {A B : Type} {x : Option (A × Kc)} {f : A → Option (B × Kc)} {out : B} {C : Kc} (h : (x.bind fun r => addc r.2 (f r.1)) = some (out, C)) : ∃ (xo : A) (xk C' : Kc), x = some (xo, xk) ∧ f xo = some (out, C') ∧ C.1 = xk.1 + C'.1 ∧ C.2 = xk.2 + C'.2 := by
  obtain ⟨⟨xo, xk⟩, e, h⟩ := obd h
  obtain ⟨C', h1, h2, h3⟩ := addc_e h
  exact ⟨xo, xk, C', e, h1, h2, h3⟩
section PSTR
variable {p : Program} {l : Launch} {e : Env} {R : Room} {s : State} {m : MethodId} {args : Array Value} {below : List Frame} {meth : Method} {c : Code} {H : Heap} {locs : List Loc} {cells slots : Nat} {Q : State → Prop}
variable {cc : ByteArray} {pc : Nat} {ls : Array Slot} {rest : List Value} {D8 D : va_G} {J : Nat → ClassId} {o z N9 : Nat} {aK aV : Nat → Nat} {G Ld : Nat → Prop} {aF : Nat → Nat} {Λ : Nat → Nat → (Nat → Int32) → Int32} {Λn : Nat → Int32} {σ τ : Cs}
theorem pword (hx : p.tables.exec = Jvm.exec) (hb : c.code = cc) (hts : ∀ w ∈ lw_all, w.before args s = true) {own : String} (hown : s.vm.findClass own = some m.cls) (hE : EP D8 D J o z aK aV G Ld aF Λ Λn s) (hI : IP D J o Ld N9 s H locs σ) {nL : Nat} (hml : c.maxLocals = nL) (hlsz : ls.size = nL) {index : Nat}
    (hf : X3_word σ = some τ) (cwl : CallW R s args own RX3 index yX3_word cX3_word 3 (some (.object "java/lang/String")) (ws_ yX3_word cX3_word 3 (some (.object "java/lang/String"))) ({ frames := 14, cells := wC τ, slots := wS τ, locals := 1500 }) (wC τ) (wS τ) 0)
    (hc : cells + wC τ ≤ R.cells ∧ slots + wS τ ≤ R.slots) (hW : 2 * (F0 m pc ls (.ref (o + 61) :: rest)).monitorRoom + (rest.map fun v => v.category).sum ≤ 8) (hdg : decode cc pc = .ok (.invokevirtual index, 3))
    (kk : ∀ (x va : Nat) (H1 : Heap) (locs1 : List Loc), IP D J o Ld N9 s H1 locs1 τ → StrF D J N9 x va 0 0 τ H1 → W p l e R s m args below meth c H1 locs1 (cells + wC τ) (slots + wS τ) Q (F0 m (pc + 3) ls (.ref x :: rest))) : W p l e R s m args below meth c H locs cells slots Q (F0 m pc ls (.ref (o + 61) :: rest)) := by
  have hle := hI.le
  have hlen : wlen τ ≤ 400 := by
    unfold X3_word at hf
    obtain ⟨t0, e0, hf⟩ := obd hf
    by_cases h : wOk t0 = true
    · rw [if_pos h] at hf
      cases hf
      have := (wOk_e h).2.2.1
      omega
    · rw [if_neg h] at hf
      cases hf
  refine va_callr (va_runV (As := []) (rest := rest) ⟨hx, hb, hml, hown, hts⟩ (mX3_word Λ Λn σ τ hf l D J o z aK aV G Ld aF H.size) cwl ⟨fun a U g mk q => ⟨q.1, q.2.1, q.2.2.1.go (State.WarmedH.refl U) (fun _ _ _ => rfl), q.2.2.2.go (State.WarmedH.refl U)⟩, g_recv hE.1.1.1 (hI.1.o 1 rfl) rfl, fun U hU hW => ⟨rfl, ⟨by rw [hU], Nat.lt_of_lt_of_le hI.2.2.2 hle, by rw [hU]; exact hI.1⟩, (hI.envP hE hU hW).1, (hI.envP hE hU hW).2.1⟩⟩ rfl rfl hlsz rfl hW hdg ⟨hc.1, hc.2⟩) hI.2.1 (fun q _ h => AP.mono hle q h) (fun q h => AP.mono hle q h) (fun u a t H1 locs1 ht hvm hp hB hz1 hk1 hS => ?_)
  obtain ⟨h1, hP, va, h2, h3, h4⟩ := hB
  rw [ht] at hP h3 h4
  exact kk a va H1 locs1 (hI.call hP hS) ⟨Nat.le_trans hle h1, h2, h3, h4, hlen⟩
theorem StrF.kept {x va : Nat} {h0 z0 : Int32} {H1 : Heap} (h : StrF D J N9 x va h0 z0 τ H) (hk : ∀ q : Nat, q < H.size → H1[q]? = H[q]?) : StrF D J N9 x va h0 z0 τ H1 := ⟨h.1, h.2.1, h.2.2.1.kept (hk _ h.2.2.1.lt), h.2.2.2.1.kept (hk _ h.2.2.2.1.lt), h.2.2.2.2⟩
theorem pequals (hx : p.tables.exec = Jvm.exec) (hb : c.code = cc) (hts : ∀ w ∈ lw_all, w.before args s = true) {own : String} (hown : s.vm.findClass own = some m.cls) (hE : EP D8 D J o z aK aV G Ld aF Λ Λn s) (hI : IP D J o Ld N9 s H locs σ) {nL : Nat} (hml : c.maxLocals = nL) (hlsz : ls.size = nL) {index x va i : Nat} {h0 z0 : Int32}
    (hs : StrF D J N9 x va h0 z0 τ H) (hi : i < nS) (cwl : CallW R s args own RJ6 index yJ6_equals cJ6_equals 3 (some .boolean) (ws_ yJ6_equals cJ6_equals 3 (some .boolean)) ({ frames := 2, cells := 0, slots := 0, locals := 100 }) 0 0 1)
    (hc : cells ≤ R.cells ∧ slots ≤ R.slots) (hW : 2 * (F0 m pc ls (.ref (aK i) :: .ref x :: rest)).monitorRoom + (rest.map fun v => v.category).sum ≤ 8) (hdg : decode cc pc = .ok (.invokevirtual index, 3))
    (kk : ∀ (H1 : Heap) (locs1 : List Loc), IP D J o Ld N9 s H1 locs1 σ → StrF D J N9 x va h0 z0 τ H1 → W p l e R s m args below meth c H1 locs1 cells slots Q (F0 m (pc + 3) ls (.int (weq τ i) :: rest))) : W p l e R s m args below meth c H locs cells slots Q (F0 m pc ls (.ref (aK i) :: .ref x :: rest)) := by
  have hz := hE.1.2.2.1
  have hN := hI.2.2.2
  have h1 := hs.1
  have hK : ¬ z ≤ aK i := (hE.1.1.2.1.1.1 i hi).1.choose_spec.2.2.2
  have hsp : SP s H x va (wlen τ) (wby τ) := SP.of hts hE.1.1.1 hs.2.2.1 hs.2.2.2.1 (by have := hs.2.2.2.2; omega)
  have hsk : SP s H (aK i) (aV i) (lenS.getD i 0) (sBy i) := SP.const hE.1.1.2.1 hi (fun q h2 h3 => hI.old q h2 (fun h4 => h3 (Nat.le_trans hz h4.1)))
  have hne : x ≠ aK i := by omega
  refine va_calli (va_runV (As := [.ref (aK i)]) (rest := rest) ⟨hx, hb, hml, hown, hts⟩ (mJ6_equals l D J z aK aV x (aK i) va (aV i) (wlen τ) (lenS.getD i 0) (wby τ) (sBy i)) cwl ⟨fun a U g mk q => ⟨q.1, ⟨q.2.1.1.mv (Vm.Alike.refl _) rfl rfl, q.2.1.2.1.mv (Vm.Alike.refl _) rfl rfl, q.2.1.2.2⟩, q.2.2.go (State.WarmedH.refl U) (fun _ _ _ => rfl)⟩, hsp.1, fun U hU hW => ⟨rfl, by
    show (SP U U.heap x va (wlen τ) (wby τ) ∧ SP U U.heap (aK i) (aV i) (lenS.getD i 0) (sBy i) ∧ x ≠ aK i) ∧ _
    refine ⟨?_, (hI.env hE.1 hU hW).1⟩
    rw [hU]
    exact ⟨hsp.mv hW.alike rfl rfl, hsk.mv hW.alike rfl rfl, hne⟩⟩⟩ rfl rfl hlsz rfl hW hdg ⟨hc.1, hc.2⟩) hI.2.1 (fun q _ h => h.elim) (fun q h => h.elim) (fun r u t H1 locs1 ht hvm hp hB hz1 hk1 hS => ?_)
  have hr : r = weq τ i := hp
  subst hr
  exact kk H1 locs1 (hI.call (hI.1.kept (fun q h _ => hk1 q h id)) hS) (hs.kept (fun q h => hk1 q h id))
theorem phash (hx : p.tables.exec = Jvm.exec) (hb : c.code = cc) (hts : ∀ w ∈ lw_all, w.before args s = true) {own : String} (hown : s.vm.findClass own = some m.cls) (hE : EP D8 D J o z aK aV G Ld aF Λ Λn s) (hI : IP D J o Ld N9 s H locs σ) {nL : Nat} (hml : c.maxLocals = nL) (hlsz : ls.size = nL) {index x va : Nat}
    (hs : StrF D J N9 x va 0 0 τ H) (cwl : CallW R s args own RJ6 index yJ6_hashCode cJ6_hashCode 2 (some .int) (ws_ yJ6_hashCode cJ6_hashCode 2 (some .int)) ({ frames := 4, cells := 0, slots := 0, locals := 300 }) 0 0 0)
    (hc : cells ≤ R.cells ∧ slots ≤ R.slots) (hW : 2 * (F0 m pc ls (.ref x :: rest)).monitorRoom + (rest.map fun v => v.category).sum ≤ 8) (hdg : decode cc pc = .ok (.invokevirtual index, 3))
    (kk : ∀ (h0 z0 : Int32) (H1 : Heap) (locs1 : List Loc), IP D J o Ld N9 s H1 locs1 σ → StrF D J N9 x va h0 z0 τ H1 → W p l e R s m args below meth c H1 locs1 cells slots Q (F0 m (pc + 3) ls (.int (whash τ) :: rest))) : W p l e R s m args below meth c H locs cells slots Q (F0 m pc ls (.ref x :: rest)) := by
  have hz := hE.1.2.2.1
  have hN := hI.2.2.2
  have h1 := hs.1
  have h2 := hs.2.1
  refine va_calli (va_runV (As := []) (rest := rest) ⟨hx, hb, hml, hown, hts⟩ (mJ6_hashCode l D J z aK aV x va (wlen τ) (wby τ) (by have := hs.2.2.2.2; omega) (by omega) (by omega)) cwl ⟨fun a U g mk q => ⟨q.1, q.2.1, q.2.2.go (State.WarmedH.refl U) (fun _ _ _ => rfl)⟩, g_recv hE.1.1.1 hs.2.2.1 rfl, fun U hU hW => ⟨rfl, by rw [hU]; exact ⟨hs.2.2.1, hs.2.2.2.1⟩, (hI.env hE.1 hU hW).1⟩⟩ rfl rfl hlsz rfl hW hdg ⟨hc.1, hc.2⟩) hI.2.1 (fun (q : Nat) _ h => Or.inr (by have h8 : q = x := h; omega)) (fun (q : Nat) h => Or.inr (by have h8 : q = x := h; omega)) (fun r u t H1 locs1 ht hvm hp hB hz1 hk1 hS => ?_)
  have hr : r = whash τ := hp
  subst hr
  obtain ⟨⟨h0, z0, hB1⟩, hB2⟩ := hB
  rw [ht] at hB1 hB2
  exact kk h0 z0 H1 locs1 (hI.call (hI.1.kept (fun q h hr => hk1 q h (fun e => by have h8 : q = x := e; have := hr.2.1; omega))) hS) ⟨h1, h2, hB1, hB2, hs.2.2.2.2⟩
end PSTR
