set_option maxRecDepth 100000
section POF
variable {p : Program} {l : Launch} {e : Env} {R : Room} {s : State} {m : MethodId} {args : Array Value} {below : List Frame} {meth : Method} {c : Code} {H : Heap} {locs : List Loc} {cells slots : Nat} {Q : State → Prop}
variable {cc : ByteArray} {pc : Nat} {ls : Array Slot} {rest : List Value} {D8 D : va_G} {J : Nat → ClassId} {o z N9 e0 mi : Nat} {aK aV : Nat → Nat} {G Ld : Nat → Prop} {aF : Nat → Nat} {Λ : Nat → Nat → (Nat → Int32) → Int32} {Λn : Nat → Int32} {σ τ : Cs}
theorem pkind (hx : p.tables.exec = Jvm.exec) (hb : c.code = cc) (hts : ∀ w ∈ lw_all, w.before args s = true) (hown : s.vm.findClass RX1 = some m.cls) (hL : EL D8 D J o z aK aV G Ld aF Λ Λn e0 mi s) (hI : IP D J o Ld N9 s H locs σ) {nL : Nat} (hml : c.maxLocals = nL) (hlsz : ls.size = nL) {x va : Nat} {h0 z0 : Int32} (hs : StrF D J N9 x va h0 z0 τ H)
    (hR : 5 ≤ R.frames ∧ 400 ≤ R.locals) (hc : cells + 1 ≤ R.cells ∧ slots + 3 ≤ R.slots) (hW : 2 * (F0 m pc ls (.ref x :: rest)).monitorRoom + (rest.map fun v => v.category).sum ≤ 8) (hdg : decode cc pc = .ok (.invokestatic 333, 3))
    (kk : ∀ (H1 : Heap) (locs1 : List Loc), IP D J o Ld N9 s H1 locs1 σ → W p l e R s m args below meth c H1 locs1 (cells + 1) (slots + 3) Q (F0 m (pc + 3) ls (va_rf ((efnd jsK τ 3 0).map (fun i => aF (7 + i))) :: rest))) : W p l e R s m args below meth c H locs cells slots Q (F0 m pc ls (.ref x :: rest)) := by
  have hz := hL.1.1.2.2.1
  have hN := hI.2.2.2
  have hle := hI.le
  obtain ⟨D9, cK, kv, hA⟩ := hL.2.2.1.1
  have hT := hL.2.2.1.2.2.1
  have hzq : ∀ q : Nat, q < s.heap.size → ¬ z ≤ q → H[q]? = s.heap[q]? := fun q h1 h2 => hI.old q h1 (fun h3 => h2 (Nat.le_trans hz h3.1))
  refine va_callq (va_runS (As := [.ref x]) (rest := rest) ⟨hx, hb, hml, hown, hts⟩ (mX10_of l D9 D J cK kv z H.size N9 x va h0 z0 aK aV aF jsK τ (by omega) (by omega)) (va_cwS 1 hts (lw_S q1421 q1422 q163 q1423) rfl rfl rfl (by decide +kernel) ⟨hR.1, Nat.le_trans (Nat.le_of_ble_eq_true rfl) hR.2⟩) ⟨fun a U g mk q => ⟨q.1, q.2.1, q.2.2.1.go (State.WarmedH.refl U) (fun _ _ _ => rfl), q.2.2.2.1.go (State.WarmedH.refl U) (fun _ _ _ => rfl), q.2.2.2.2.go (State.WarmedH.refl U) (fun _ _ _ => rfl)⟩, fun U hU hW => ⟨rfl, by rw [hU]; exact ⟨rfl, hs⟩, (hI.envL hL hU hW).1.1.1, hA.go hW (fun q h1 h2 => by rw [hU]; exact hzq q h1 h2), hT.go hW (fun q h1 h2 => by rw [hU]; exact hzq q h1 h2)⟩⟩ rfl rfl hlsz rfl hW hdg ⟨hc.1, hc.2⟩) hI.2.1 (fun q _ h => Or.inr (Nat.le_trans hle h)) (fun q h => Or.inr (Nat.le_trans hle h)) (fun r u t H1 locs1 ht hvm hp hB hz1 hk1 hS => ?_)
  have hr : r = _ := hp
  rw [hr]
  exact kk H1 locs1 (hI.call (hI.1.kept (fun q h _ => hk1 q h (by show ¬ H.size ≤ q; omega))) hS)
theorem pfact (hx : p.tables.exec = Jvm.exec) (hb : c.code = cc) (hts : ∀ w ∈ lw_all, w.before args s = true) (hown : s.vm.findClass RX1 = some m.cls) (hL : EL D8 D J o z aK aV G Ld aF Λ Λn e0 mi s) (hI : IP D J o Ld N9 s H locs σ) {nL : Nat} (hml : c.maxLocals = nL) (hlsz : ls.size = nL) {x va : Nat} {h0 z0 : Int32} (hs : StrF D J N9 x va h0 z0 τ H)
    (hR : 5 ≤ R.frames ∧ 400 ≤ R.locals) (hc : cells + 1 ≤ R.cells ∧ slots + 7 ≤ R.slots) (hW : 2 * (F0 m pc ls (.ref x :: rest)).monitorRoom + (rest.map fun v => v.category).sum ≤ 8) (hdg : decode cc pc = .ok (.invokestatic 266, 3))
    (kk : ∀ (H1 : Heap) (locs1 : List Loc), IP D J o Ld N9 s H1 locs1 σ → W p l e R s m args below meth c H1 locs1 (cells + 1) (slots + 7) Q (F0 m (pc + 3) ls (va_rf ((efnd jsF τ 7 0).map (fun i => aF (0 + i))) :: rest))) : W p l e R s m args below meth c H locs cells slots Q (F0 m pc ls (.ref x :: rest)) := by
  have hz := hL.1.1.2.2.1
  have hN := hI.2.2.2
  have hle := hI.le
  obtain ⟨D9, cK, kv, hA⟩ := hL.2.2.1.2.1
  have hT := hL.2.2.1.2.2.2
  have hzq : ∀ q : Nat, q < s.heap.size → ¬ z ≤ q → H[q]? = s.heap[q]? := fun q h1 h2 => hI.old q h1 (fun h3 => h2 (Nat.le_trans hz h3.1))
  refine va_callq (va_runS (As := [.ref x]) (rest := rest) ⟨hx, hb, hml, hown, hts⟩ (mX17_of l D9 D J cK kv z H.size N9 x va h0 z0 aK aV aF jsF τ (by omega) (by omega)) (va_cwS 1 hts (lw_S q1536 q1537 q170 q1538) rfl rfl rfl (by decide +kernel) ⟨hR.1, Nat.le_trans (Nat.le_of_ble_eq_true rfl) hR.2⟩) ⟨fun a U g mk q => ⟨q.1, q.2.1, q.2.2.1.go (State.WarmedH.refl U) (fun _ _ _ => rfl), q.2.2.2.1.go (State.WarmedH.refl U) (fun _ _ _ => rfl), q.2.2.2.2.go (State.WarmedH.refl U) (fun _ _ _ => rfl)⟩, fun U hU hW => ⟨rfl, by rw [hU]; exact ⟨rfl, hs⟩, (hI.envL hL hU hW).1.1.1, hA.go hW (fun q h1 h2 => by rw [hU]; exact hzq q h1 h2), hT.go hW (fun q h1 h2 => by rw [hU]; exact hzq q h1 h2)⟩⟩ rfl rfl hlsz rfl hW hdg ⟨hc.1, hc.2⟩) hI.2.1 (fun q _ h => Or.inr (Nat.le_trans hle h)) (fun q h => Or.inr (Nat.le_trans hle h)) (fun r u t H1 locs1 ht hvm hp hB hz1 hk1 hS => ?_)
  have hr : r = _ := hp
  rw [hr]
  exact kk H1 locs1 (hI.call (hI.1.kept (fun q h _ => hk1 q h (by show ¬ H.size ≤ q; omega))) hS)
end POF
