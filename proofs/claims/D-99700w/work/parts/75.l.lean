section PLAW
variable {p : Program} {l : Launch} {e : Env} {R : Room} {s : State} {m : MethodId} {args : Array Value} {below : List Frame} {meth : Method} {c : Code} {H : Heap} {locs : List Loc} {cells slots : Nat} {Q : State → Prop}
variable {cc : ByteArray} {pc : Nat} {ls : Array Slot} {rest : List Value} {D8 D : va_G} {J : Nat → ClassId} {o z N9 e0 mi : Nat} {aK aV : Nat → Nat} {G Ld : Nat → Prop} {aF : Nat → Nat} {Λ : Nat → Nat → (Nat → Int32) → Int32} {Λn : Nat → Int32} {σ τ : Cs}
theorem IP.envL (hI : IP D J o Ld N9 s H locs σ) (hL : EL D8 D J o z aK aV G Ld aF Λ Λn e0 mi s) {U : State} (hU : U.heap = H) (hW : s.WarmedH U.vm) : EL D8 D J o z aK aV G Ld aF Λ Λn e0 mi U := hL.go hW (fun q h1 h2 => by rw [hU]; exact hI.old q h1 h2)
/-- a call that answers with a new object -/
theorem pcallO {α : Type} (hx : p.tables.exec = Jvm.exec) (hb : c.code = cc) (hts : ∀ w ∈ lw_all, w.before args s = true) (hst : l.stackTraces = false) {own : String} (hown : s.vm.findClass own = some m.cls) (hL : EL D8 D J o z aK aV G Ld aF Λ Λn e0 mi s) (hI : IP D J o Ld N9 s H locs σ) {nL : Nat} (hml : c.maxLocals = nL) (hlsz : ls.size = nL)
    {y : MethodName} {cd : ByteArray} {nL' fr lo n index b ci N : Nat} {fs : List Value} {C : String} {T : u_T} {ret : Option FieldType} {As : Nat → List Value} {As' : List Value} {Good : va_G → (Nat → ClassId) → (Nat → Prop) → (Nat → Nat) → Nat → α → Heap → Prop} {out : (α × Cs) ⊕ Cs} {K : Kc} (hM : PXo y cd nL' ret fr lo Λ Λn As Good out K σ) (cwl : CallW R s args own C index y cd nL' ret (ws_ y cd nL' ret) ({ frames := fr, cells := K.1, slots := K.2, locals := lo }) K.1 K.2 n) (hat : va_at D vwC (b, .inr (ci, fs)) H) (hcl : vwC[ci]? = some (C, T, N)) (hAs : As o = .ref b :: As')
    (hc : cells + K.1 ≤ R.cells ∧ slots + K.2 ≤ R.slots) (hn : As'.length = n) {st : List Value} (hst0 : st = As'.reverse ++ .ref b :: rest) (hW : 2 * (F0 m pc ls st).monitorRoom + (rest.map fun v => v.category).sum ≤ 8) (hdg : decode cc pc = .ok (.invokevirtual index, 3))
    (kx : ∀ (E : String) (ce : Cell) (q9 : Addr) (σ' : Cs) (H1 : Heap) (locs1 : List Loc), out = .inr σ' → E = RX8 → IP D J o Ld N9 s H1 locs1 σ' → H1[q9]? = some ce → ce.vm = .none → s.vm.findClass E = some ce.cls → vx_W p l e R s m args below meth c H1 locs1 (cells + K.1) (slots + K.2) Q (F0 m pc ls rest) q9)
    (kk : ∀ (a : Nat) (v : α × Cs) (H1 : Heap) (locs1 : List Loc), out = .inl v → IP D J o Ld N9 s H1 locs1 v.2 → Good D J (fun q => H.size ≤ q) aF a v.1 H1 → H.size ≤ H1.size → (∀ q : Nat, q < H.size → ¬ rC o q → H1[q]? = H[q]?) → W p l e R s m args below meth c H1 locs1 (cells + K.1) (slots + K.2) Q (F0 m (pc + 3) ls (.ref a :: rest))) : W p l e R s m args below meth c H locs cells slots Q (F0 m pc ls st) := by
  have hM := hM l D8 D J o z aK aV G Ld aF e0 mi H.size hst
  rw [hAs] at hM
  refine vx_callq (vx_runV (As := As') (rest := rest) ⟨hx, hb, hml, hown, hts⟩ hM cwl ⟨fun a U g mk q => ⟨q.1, q.2.1, q.2.2.go (State.WarmedH.refl U) (fun _ _ _ => rfl)⟩, g_recv hL.1.1.1.1 hat hcl, fun U hU hW => ⟨rfl, ⟨by rw [hU], Nat.lt_of_lt_of_le hI.2.2.2 hI.le, by rw [hU]; exact hI.1⟩, hI.envL hL hU hW⟩⟩ rfl hn hlsz hst0 hW hdg ⟨hc.1, hc.2⟩) hI.2.1 (fun q _ h => AP.mono hI.le q h) (fun q h => AP.mono hI.le q h) (fun q _ h => AP.mono hI.le q h) (fun E ce q9 u t H1 locs1 ht hvm hp hB hz1 hk1 hS h1 h2 h3 => ?_) (fun r u t H1 locs1 ht hvm hp hB hz1 hk1 hS => ?_)
  · exact kx E ce q9 u H1 locs1 hp hB.1 (hI.call (by rw [← ht]; exact hB.2) hS) h1 h2 h3
  · obtain ⟨rfl, hp⟩ := hp
    rw [ht] at hB
    exact kk u.2 u.1 H1 locs1 hp (hI.call hB.1 hS) hB.2 hz1 (fun q h1 h2 => hk1 q h1 (fun g => by
      rcases g with g | g
      · exact h2 g
      · omega))
end PLAW
