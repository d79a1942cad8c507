def CXr (y : MethodName) (cd : ByteArray) (nL : Nat) (ret : Option FieldType) (fr lo mc ms : Nat) (Λ : Nat → Nat → (Nat → Int32) → Int32) (Λn : Nat → Int32) (As : Nat → (Nat → Nat) → (Nat → Nat) → List Value) (r : Nat → Nat) (out : Xo) (σ : Cs) : Prop :=
  ∀ (l : Launch) (D : va_G) (J : Nat → ClassId) (o z : Nat) (aK aV : Nat → Nat) (G Ld : Nat → Prop) (aF : Nat → Nat), l.stackTraces = false → vx_Met l y (ws_ y cd nL ret) ({ frames := fr, cells := mc, slots := ms, locals := lo }) (va_Pc (As o aK aF) (fun U => PC D J o Ld σ U.heap ∧ ECX D J o z aK aV G Ld aF Λ Λn U)) (va_Qq (fun (a : Option Nat) (σ' : Cs) => a = some (r o) ∧ out = .inl (0, σ')) (fun σ' t => PC D J o Ld σ' t.heap) (rC o)) (vx_X (fun (u : Nat × Cs) => out = .inr u) (fun E u t => E = exN u.1 ∧ PC D J o Ld u.2 t.heap) (rC o)) mc ms (rC o)
theorem CXr.of {y : MethodName} {cd : ByteArray} {nL fr lo mc ms : Nat} {Λ : Nat → Nat → (Nat → Int32) → Int32} {Λn : Nat → Int32} {As : Nat → (Nat → Nat) → (Nat → Nat) → List Value} {C : String} {r : Nat → Nat} {out : Xo} {σ : Cs} (hy : plainName y.cls = true) (hlen : ∀ (o : Nat) (aK aF : Nat → Nat), (lg_sl (As o aK aF)).length ≤ nL)
    (body : ∀ (p : Program) (l : Launch) (e : Env) (s : State) (m : MethodId) (args : Array Value) (below : List Frame) (meth : Method) (c : Code) (D : va_G) (J : Nat → ClassId) (o z : Nat) (aK aV : Nat → Nat) (G Ld : Nat → Prop) (aF : Nat → Nat) (Q : State → Prop) (ls : Array Slot), l.stackTraces = false → p.tables.exec = Jvm.exec → c.code = cd → c.maxLocals = nL → s.vm.findClass y.cls = some m.cls → (∀ w ∈ lw_all, w.before args s = true) → ECC D J o z aK aV G Ld aF Λ Λn s → ThrE z s →
      (∀ (H : Heap) (locs : List Loc) (pc : Nat) (ls : Array Slot) (σ' : Cs), IC D J o Ld s H locs σ' → out = .inl (0, σ') → decode cd pc = .ok (.areturn, 1) → W p l e ({ frames := fr, cells := mc, slots := ms, locals := lo } : Room) s m args below meth c H locs mc ms Q (F0 m pc ls [.ref (r o)])) →
      (∀ (H : Heap) (locs : List Loc) (pc : Nat) (ls : Array Slot) (rest : List Value) (cells slots : Nat) (E : String) (ce : Cell) (q9 : Addr) (n : Nat) (σ' : Cs), IC D J o Ld s H locs σ' → out = .inr (n, σ') → E = exN n → H[q9]? = some ce → ce.vm = .none → s.vm.findClass E = some ce.cls → cells ≤ mc → slots ≤ ms → vx_W p l e ({ frames := fr, cells := mc, slots := ms, locals := lo } : Room) s m args below meth c H locs cells slots Q (F0 m pc ls rest) q9) →
      (∀ (H : Heap) (locs : List Loc) (pc : Nat) (ls : Array Slot) (cells slots : Nat) (i ik ic : Nat) (names : List String) (σ' : Cs), IC D J o Ld s H locs σ' → out = .inr (i, σ') → ls.size = nL → (Cond.classLink y.cls ik (exN i)).before args s = true → (Cond.initialized (exN i)).before args s = true → (∀ w ∈ vx_at0 y.cls ic (exN i) names, w.before args s = true) → (∀ w ∈ Cond.classLink y.cls ik (exN i) :: Cond.initialized (exN i) :: vx_at0 y.cls ic (exN i) names, vx_ot w = true) → Bundle.fit (exN i) = true → (∀ n ∈ names, Bundle.fit n = true) → decode cd pc = .ok (.new ik, 3) → decode cd (pc + 3) = .ok (.dup, 1) → decode cd (pc + 4) = .ok (.invokespecial ic, 3) → decode cd (pc + 7) = .ok (.athrow, 1) → names.length + 3 < fr → 13 * (names.length + 1) + 42 ≤ lo → cells + 1 ≤ mc → slots + 6 ≤ ms → W p l e ({ frames := fr, cells := mc, slots := ms, locals := lo } : Room) s m args below meth c H locs cells slots Q (F0 m pc ls [])) →
      IC D J o Ld s s.heap [] σ → lv_has ls nL (lv_args 0 (As o aK aF)) → W p l e ({ frames := fr, cells := mc, slots := ms, locals := lo } : Room) s m args below meth c s.heap [] 0 0 Q (F0 m 0 ls [])) : CXr y cd nL (some (.object C)) fr lo mc ms Λ Λn As r out σ := by
  intro l D J o z aK aV G Ld aF hst
  refine vx_ofW (cc := cd) (maxL := nL) (ret := some (.object C)) hy rfl ?_
  intro p e s m args below meth c s₁ B hml htab hv
  obtain ⟨rfl, hP, hE, hT⟩ := hv
  have hts := atoms_spec (ws := ws_ y cd nL (some (.object C))) B.pre
  have hts : ∀ w ∈ lw_all, w.before _ s = true := fun w h => hts w (List.mem_cons_of_mem _ h)
  have hl := lv_entry (As o aK aF) (n := nL) (hlen o aK aF)
  rw [lg_entry_eq]
  generalize (lg_sl (As o aK aF) ++ List.replicate (nL - (lg_sl (As o aK aF)).length) Slot.unset).toArray = ls at hl ⊢
  have hown := findClass_of_methodNamed B.named
  refine body p l e s m _ below meth c D J o z aK aV G Ld aF _ ls hst B.exec B.bytes hml hown hts hE hT (fun H locs pc ls σ' hI ho hdg => vx_ret ?_) (fun H locs pc ls rest cells slots E ce q9 n σ' hI ho hn h1 h2 h3 hc hs => ?_) (fun H locs pc ls cells slots i ik ic names σ' hI ho hls hk hini hat hgood hfit hfits d0 d3 d4 d7 hfr hlo hc hs => ?_) ⟨hP, va_S.rf⟩ hl
  · exact W.aret B.exec B.bytes B.returns (Or.inl ⟨C, rfl⟩) (Or.inr ⟨r o, rfl⟩) (fun t ht hW => ⟨⟨some (r o), σ', rfl, ⟨rfl, ho⟩, by show PC D J o Ld σ' t.heap; rw [ht]; exact hI.1⟩, hI.2.F ht⟩) hI.2.2.2 hdg B.notSynchronized
  · exact vx_out (fun x hx => (htab x hx).elim) B.notSynchronized h1 h2 h3 (fun t ht _ => ⟨(n, σ'), ho, ⟨hn, by rw [ht]; exact hI.1⟩, hI.2.F ht⟩) hI.2.2.2 hc hs
  · exact vx_throw0 (A := zZ z) (names := names) B.exec B.bytes hst hown hfit hfits hk hini hat hgood hT.2.2.1 hT.2.2.2 ⟨hI.2.1, fun q h1 h2 => hI.2.2.1 q h1 (fun h3 => h2 (Nat.le_trans hE.2.2.1 h3.1)), fun l hl => Nat.le_trans hE.2.2.1 (hI.2.2.2 l hl).1⟩ (by rw [hls, hml]) d0 d3 d4 d7 (fun x hx => (htab x hx).elim) hfr (by simpa using hlo) hc hs B.notSynchronized (fun t _ hz hq => ⟨(i, σ'), ho, ⟨rfl, hI.1.kept (fun q h1 _ => hq q h1)⟩, ⟨Nat.le_trans hI.2.1 hz, fun q h1 h2 => (hq q (Nat.lt_of_lt_of_le h1 hI.2.1)).trans (hI.2.2.1 q h1 h2)⟩⟩) hI.2.2.2 hc hs
section RCALLS
variable {p : Program} {l : Launch} {e : Env} {R : Room} {s : State} {m : MethodId} {args : Array Value} {below : List Frame} {meth : Method} {c : Code} {H : Heap} {locs : List Loc} {cells slots : Nat} {Q : State → Prop}
variable {cc : ByteArray} {pc : Nat} {ls : Array Slot} {rest : List Value} {D : va_G} {J : Nat → ClassId} {o z : Nat} {aK aV : Nat → Nat} {G Ld : Nat → Prop} {aF : Nat → Nat} {Λ : Nat → Nat → (Nat → Int32) → Int32} {Λn : Nat → Int32} {σ σ' : Cs}
theorem xcallR (hx : p.tables.exec = Jvm.exec) (hb : c.code = cc) (hts : ∀ w ∈ lw_all, w.before args s = true) (hst : l.stackTraces = false) {own : String} (hown : s.vm.findClass own = some m.cls) (hE : ECC D J o z aK aV G Ld aF Λ Λn s) (hT : ThrE z s) (hI : IC D J o Ld s H locs σ) {nL : Nat} (hml : c.maxLocals = nL) (hlsz : ls.size = nL)
    {y : MethodName} {cd : ByteArray} {nL' fr lo mc ms n index b ci N : Nat} {fs : List Value} {C : String} {T : u_T} {ret : Option FieldType} {As : Nat → (Nat → Nat) → (Nat → Nat) → List Value} {As' : List Value} {out : Xo} {r : Nat → Nat} (hM : CXr y cd nL' ret fr lo mc ms Λ Λn As r out σ) (cwl : CallW R s args own C index y cd nL' ret (ws_ y cd nL' ret) ({ frames := fr, cells := mc, slots := ms, locals := lo }) mc ms n) (hat : va_at D vwC (b, .inr (ci, fs)) H) (hcl : vwC[ci]? = some (C, T, N)) (hAs : As o aK aF = .ref b :: As')
    (hc : cells + mc ≤ R.cells ∧ slots + ms ≤ R.slots) (hn : As'.length = n) {st : List Value} (hst0 : st = As'.reverse ++ .ref b :: rest) (hW : 2 * (F0 m pc ls st).monitorRoom + (rest.map fun v => v.category).sum ≤ 8) (hdg : decode cc pc = .ok (.invokevirtual index, 3))
    (kx : ∀ (E : String) (ce : Cell) (q9 : Addr) (n : Nat) (σ' : Cs) (H1 : Heap) (locs1 : List Loc), out = .inr (n, σ') → E = exN n → IC D J o Ld s H1 locs1 σ' → H1[q9]? = some ce → ce.vm = .none → s.vm.findClass E = some ce.cls → vx_W p l e R s m args below meth c H1 locs1 (cells + mc) (slots + ms) Q (F0 m pc ls rest) q9)
    (kk : ∀ (v : Int32 × Cs) (H1 : Heap) (locs1 : List Loc), out = .inl v → IC D J o Ld s H1 locs1 v.2 → W p l e R s m args below meth c H1 locs1 (cells + mc) (slots + ms) Q (F0 m (pc + 3) ls (.ref (r o) :: rest))) : W p l e R s m args below meth c H locs cells slots Q (F0 m pc ls st) := by
  have hM := hM l D J o z aK aV G Ld aF hst
  rw [hAs] at hM
  refine vx_callq (vx_runV (As := As') (rest := rest) ⟨hx, hb, hml, hown, hts⟩ hM cwl ⟨fun a U g mk q => ?_, g_recv hE.1.1 hat hcl, fun U hU hW => ⟨rfl, by rw [hU]; exact hI.1, ECX.go ⟨hE, hT⟩ hW (fun q h1 h2 => by rw [hU]; exact hI.old q h1 h2)⟩⟩ rfl hn hlsz hst0 hW hdg ⟨hc.1, hc.2⟩) hI.2 (fun q _ h => h) (fun q h => h) (fun q _ h => h) (fun E ce q9 u t H1 locs1 ht hvm hp hB hz1 hk1 hS h1 h2 h3 => ?_) (fun a u t H1 locs1 ht hvm hp hB hz1 hk1 hS => ?_)
  · obtain ⟨q0, qP, qE⟩ := q
    exact ⟨q0, qP, qE.go (State.WarmedH.refl U) (fun _ _ _ => rfl)⟩
  · exact kx E ce q9 u.1 u.2 H1 locs1 hp hB.1 ⟨by rw [← ht]; exact hB.2, hS⟩ h1 h2 h3
  · obtain ⟨rfl, hp⟩ := hp
    exact kk (0, u) H1 locs1 hp ⟨by rw [← ht]; exact hB, hS⟩
end RCALLS

theorem cnX1_demand_X6 {R : Room} {s : State} {args : Array Value} {fr lo : Nat} (hts : ∀ w ∈ lw_all, w.before args s = true) (hN : NestE s) (hR : fr + 1 ≤ R.frames ∧ 8 + (1 + 11) + lo ≤ R.locals) : va_CN R s args RX6 35 yX1_demand "LateInks" cX1_demand 1 (none) (ws_ yX1_demand cX1_demand 1 (none)) ({ frames := fr, cells := 1, slots := 6, locals := lo }) 1 6 1 ∧ (Cond.static yX1_demand).before args s = true ∧ True :=
  ⟨va_cnB 1 hts (lw_meth q1779) rfl rfl rfl (hN.m 8 rfl) (hts _ q133) (by decide +kernel) hR, hts _ q1778, trivial⟩
theorem dnX1_demand_X6 {R : Room} {s : State} {args : Array Value} {fr lo : Nat} (hts : ∀ w ∈ lw_all, w.before args s = true) (hN : NestE s) (hR : fr + 1 ≤ R.frames ∧ 8 + (1 + 11) + lo ≤ R.locals) : va_CN R s args RX6 35 yX1_demand "LateInks" cX1_demand 1 (none) (ws_ yX1_demand cX1_demand 1 (none)) ({ frames := fr, cells := 0, slots := 0, locals := lo }) 0 0 1 ∧ (Cond.static yX1_demand).before args s = true ∧ True :=
  ⟨va_cnB 1 hts (lw_meth q1779) rfl rfl rfl (hN.m 8 rfl) (hts _ q133) (by decide +kernel) hR, hts _ q1778, trivial⟩
theorem cwX3_begins_X6 {R : Room} {s : State} {args : Array Value} {fr lo : Nat} (hts : ∀ w ∈ lw_all, w.before args s = true) (hR : fr + 1 ≤ R.frames ∧ 8 + (1 + 11) + lo ≤ R.locals) : CallW R s args RX6 RX3 26 yX3_begins cX3_begins 1 (none) (ws_ yX3_begins cX3_begins 1 (none)) ({ frames := fr, cells := 0, slots := 0, locals := lo }) 0 0 0 :=
  cwV 0 hts (lw_V q1928 q839 q840 q136 q841) rfl rfl rfl (by decide +kernel) hR
theorem cnX1_in_X6 {R : Room} {s : State} {args : Array Value} {fr lo : Nat} (hts : ∀ w ∈ lw_all, w.before args s = true) (hN : NestE s) (hR : fr + 1 ≤ R.frames ∧ 8 + (3 + 11) + lo ≤ R.locals) : va_CN R s args RX6 43 yX1_in "LateInks" cX1_in 3 (some .boolean) (ws_ yX1_in cX1_in 3 (some .boolean)) ({ frames := fr, cells := 0, slots := 0, locals := lo }) 0 0 3 ∧ (Cond.static yX1_in).before args s = true ∧ True :=
  ⟨va_cnB 3 hts (lw_meth q868) rfl rfl rfl (hN.m 9 rfl) (hts _ q133) (by decide +kernel) hR, hts _ q867, trivial⟩
theorem cnX1_readFrom_X6 {R : Room} {s : State} {args : Array Value} {fr lo : Nat} (hts : ∀ w ∈ lw_all, w.before args s = true) (hN : NestE s) (hR : fr + 1 ≤ R.frames ∧ 8 + (5 + 11) + lo ≤ R.locals) : va_CN R s args RX6 56 yX1_readFrom "LateInks" cX1_readFrom 5 (some .int) (ws_ yX1_readFrom cX1_readFrom 5 (some .int)) ({ frames := fr, cells := 0, slots := 0, locals := lo }) 0 0 2 ∧ (Cond.instanceMethod yX1_readFrom).before args s = true ∧ (Cond.selects RX1 yX1_readFrom yX1_readFrom).before args s = true :=
  ⟨va_cnB 2 hts (lw_meth q748) rfl rfl rfl (hN.m 10 rfl) (hts _ q133) (by decide +kernel) hR, hts _ q747, hts _ qs9⟩
def X6_told_L95 : Nat → Cs → Int32 → Option (Xo)
  | 0, _, _ => none
  | n + 1, τ, x2 =>
    if ((cw τ 0 0 2) * (21 : Int32)) ≤ x2 then
      some (.inl ((0 : Int32), τ))
    else
      (X1_readFrom τ (x2 / (21 : Int32)) (x2 - x2 / (21 : Int32) * (21 : Int32))).bind fun x129 =>
      (stof 126 (co τ 5) x2 x129).bind fun g132 =>
      (some (cou τ (mset (co τ) 5 g132))).bind fun t132 =>
      (ld 6 (cw t132 0 12) (x2 / (21 : Int32))).bind fun x147 =>
      if x147 = (0 : Int32) then
        (stof 126 (co t132 6) x2 (100000000 : Int32)).bind fun g171_9 =>
        (some (cou t132 (mset (co t132) 6 g171_9))).bind fun t171_10 =>
        (some (x2 + (1 : Int32))).bind fun v172_11 =>
        X6_told_L95 n t171_10 v172_11
      else
        (ld 126 (co t132 5) x2).bind fun x168 =>
        (stof 126 (co t132 6) x2 (x168 + x147)).bind fun g171 =>
        (some (cou t132 (mset (co t132) 6 g171))).bind fun t171 =>
        (some (x2 + (1 : Int32))).bind fun v172 =>
        X6_told_L95 n t171 v172
def X6_told_L40 : Nat → Cs → Int32 → Option (Xo)
  | 0, _, _ => none
  | n + 1, τ, x2 =>
    if (co τ 1 2) ≤ x2 then
      X6_told_L95 FU τ (0 : Int32)
    else
      (ld 400 (co τ 2) x2).bind fun x53 =>
      (X1_in x53 (0 : Int32) (60 : Int32)).bind fun x57 =>
      if x57 = (0 : Int32) then
        (X1_demand (0 : Int32)).bind fun x84 =>
        Option.elim x84 (
        (some (x2 + (2 : Int32))).bind fun v87 =>
        X6_told_L40 n τ v87) fun n => some (.inr (n, τ))
      else
        (ld 400 (co τ 2) (x2 + (1 : Int32))).bind fun x70 =>
        (X1_in x70 (0 : Int32) (1 : Int32)).bind fun x73 =>
        if x73 = (0 : Int32) then
          (X1_demand (0 : Int32)).bind fun x84_18 =>
          Option.elim x84_18 (
          (some (x2 + (2 : Int32))).bind fun v87_19 =>
          X6_told_L40 n τ v87_19) fun n => some (.inr (n, τ))
        else
          (X1_demand (1 : Int32)).bind fun x84_20 =>
          Option.elim x84_20 (
          (some (x2 + (2 : Int32))).bind fun v87_21 =>
          X6_told_L40 n τ v87_21) fun n => some (.inr (n, τ))
def X6_told_J35 (τ : Cs) (y0 : Int32) : Option (Xo) :=
  (X1_demand y0).bind fun x35 =>
  Option.elim x35 (
  X6_told_L40 FU τ (0 : Int32)) fun n => some (.inr (n, τ))
def X6_told_J34 (τ : Cs) : Option (Xo) :=
  X6_told_J35 τ (0 : Int32)
def X6_told (τ : Cs) : Option Xo :=
  (X3_begins τ).bind fun t9 =>
  if ((co t9 1 2) - (co t9 1 2) / (2 : Int32) * (2 : Int32)) = (0 : Int32) then
    if (40 : Int32) < (co t9 1 2) then
      X6_told_J34 t9
    else
      X6_told_J35 t9 (1 : Int32)
  else
    X6_told_J34 t9
set_option maxHeartbeats 4000000 in
theorem mX6_told (Λ : Nat → Nat → (Nat → Int32) → Int32) (Λn : Nat → Int32) (τ : Cs) (out : Xo) (hf : X6_told τ = some out) : CXr yX6_told cX6_told 4 (some (.object "LateInks$Jars")) 11 320 1 6 Λ Λn (fun o aK aF => [.ref (o + 86)]) (fun o => o + 86) out τ := by
  refine CXr.of (by decide) (fun _ _ _ => Nat.le_of_ble_eq_true rfl) ?_
  intro p l e s m args below meth c D J o z aK aV G Ld aF Q ls hst hx hb hml hown hts hE hT hret hxx hthr hI hl
  obtain ⟨H, eH⟩ : ∃ H, H = s.heap := ⟨_, rfl⟩
  obtain ⟨locs, eL⟩ : ∃ L : List Loc, L = [] := ⟨_, rfl⟩
  rw [← eH, ← eL] at hI ⊢
  have hown : s.vm.findClass RX6 = some m.cls := hown
  have hl : lv_has ls 4 [(0, .ref (o + 86))] := hl
  unfold X6_told at hf
  have hJ95 : ∀ (n : Nat) (τ : Cs) (x2 : Int32) (H : Heap) (locs : List Loc) (ls : Array Slot), X6_told_L95 n τ x2 = some out → IC D J o Ld s H locs τ → lv_has ls 4 [(0, .ref (o + 86)), (2, .int x2)] → W p l e ({ frames := 11, cells := 1, slots := 6, locals := 320 } : Room) s m args below meth c H locs 0 0 Q (F0 m 95 ls []) := by
    intro n
    induction n with
    | zero =>
      intro τ x2 H locs ls hf hI hl
      cases hf
    | succ n ih =>
      intro τ x2 H locs ls hf hI hl
      rw [X6_told_L95] at hf
      refine lv_iload_n hx hb dX6_told_95 rfl (lv_at hl 1 rfl) ?_
      refine lv_aload_n hx hb dX6_told_96 rfl (lv_at hl 0 rfl) ?_
      refine gget hx hb hts in_X6 hown hE.1.1 (hI.1.o 5 rfl) rfl 2 (by decide) q455 rfl dX6_told_97 ?_
      refine ggetN hx hb hts in_X1 hown hE.1.1 (hI.1.o 0 rfl) rfl 0 (by decide) (hE.1.2.2.f 55 rfl) rfl dX6_told_100 ?_
      refine ggetN hx hb hts in_X2 hown hE.1.1 (hI.1.w 0 (by decide) 0 rfl) rfl 2 (by decide) (hE.1.2.2.f 2 rfl) rfl dX6_told_103 ?_
      refine lv_bipush (v := (21 : Int32)) hx hb dX6_told_106 (by decide) ?_
      refine lv_imul hx hb dX6_told_108 ?_
      refine lv_icmp_ge (tgt := 178) hx hb dX6_told_109 (by decide) (fun hc => ?_) (fun hc => ?_)
      · replace hf := ipos hc hf
        refine lv_aload_n hx hb dX6_told_178 rfl (lv_at hl 0 rfl) ?_
        refine W.widen (k := 1) (n := 6) (Nat.le_of_ble_eq_true rfl) (Nat.le_of_ble_eq_true rfl) ?_
        exact hret H locs 179 ls _ hI (Option.some.inj hf).symm dX6_told_179
      · replace hf := ineg hc hf
        refine lv_aload_n hx hb dX6_told_112 rfl (lv_at hl 0 rfl) ?_
        refine gget hx hb hts in_X6 hown hE.1.1 (hI.1.o 5 rfl) rfl 0 (by decide) q453 rfl dX6_told_113 ?_
        refine lv_iload_n hx hb dX6_told_116 rfl (lv_at hl 1 rfl) ?_
        refine lv_aload_n hx hb dX6_told_117 rfl (lv_at hl 0 rfl) ?_
        refine gget hx hb hts in_X6 hown hE.1.1 (hI.1.o 5 rfl) rfl 2 (by decide) q455 rfl dX6_told_118 ?_
        refine lv_iload_n hx hb dX6_told_121 rfl (lv_at hl 1 rfl) ?_
        refine lv_bipush (v := (21 : Int32)) hx hb dX6_told_122 (by decide) ?_
        refine lv_idiv hx hb dX6_told_124 (by decide) ?_
        refine lv_iload_n hx hb dX6_told_125 rfl (lv_at hl 1 rfl) ?_
        refine lv_bipush (v := (21 : Int32)) hx hb dX6_told_126 (by decide) ?_
        refine lv_irem hx hb dX6_told_128 (by decide) ?_
        obtain ⟨x129, ex129, hf⟩ := obd hf
        refine ccallIN (rest := [.int x2, .ref (o + 87)]) hx hb hts hown hE hI hml hl.1 (mX1_readFrom Λ Λn τ (x2 / (21 : Int32)) (x2 - x2 / (21 : Int32) * (21 : Int32)) _ ex129) (cnX1_readFrom_X6 hts hE.1.2.2 ⟨Nat.le_of_ble_eq_true rfl, Nat.le_of_ble_eq_true rfl⟩) (hI.1.o 0 rfl) rfl rfl ⟨Nat.le_of_ble_eq_true rfl, Nat.le_of_ble_eq_true rfl⟩ rfl rfl (lv_room (Nat.le_of_ble_eq_true rfl)) dX6_told_129 (fun H locs hI => ?_)
        obtain ⟨g132, eg132, hf⟩ := obd hf
        obtain ⟨t132, et132, hf⟩ := obd hf
        refine gast hx hb hE.1.1 0 (hI.1.o 6 rfl) rfl eg132 dX6_told_132 (fun H locs h1 h2 h3 h4 => ?_)
        have hI := hI.putO (σ' := cou τ (mset (co τ) 5 g132)) (P := 6) rfl rfl ⟨rfl, rfl⟩ h1 h2 h3 h4
        rw [Option.some.inj et132] at hI
        refine lv_aload_n hx hb dX6_told_133 rfl (lv_at hl 0 rfl) ?_
        refine gget hx hb hts in_X6 hown hE.1.1 (hI.1.o 5 rfl) rfl 2 (by decide) q455 rfl dX6_told_134 ?_
        refine ggetN hx hb hts in_X1 hown hE.1.1 (hI.1.o 0 rfl) rfl 0 (by decide) (hE.1.2.2.f 55 rfl) rfl dX6_told_137 ?_
        refine ggetN hx hb hts in_X2 hown hE.1.1 (hI.1.w 0 (by decide) 0 rfl) rfl 12 (by decide) (hE.1.2.2.f 14 rfl) rfl dX6_told_140 ?_
        refine lv_iload_n hx hb dX6_told_143 rfl (lv_at hl 1 rfl) ?_
        refine lv_bipush (v := (21 : Int32)) hx hb dX6_told_144 (by decide) ?_
        refine lv_idiv hx hb dX6_told_146 (by decide) ?_
        obtain ⟨x147, ex147, hf⟩ := obd hf
        refine gald hx hb hE.1.1 0 (hI.1.w 0 (by decide) 4 rfl) rfl ex147 dX6_told_147 ?_
        refine lv_istore_n (lv' := [(3, .int x147), (0, .ref (o + 86)), (2, .int x2)]) hx hb dX6_told_148 rfl hl (by decide) rfl (fun ls hl => ?_)
        refine lv_aload_n hx hb dX6_told_149 rfl (lv_at hl 1 rfl) ?_
        refine gget hx hb hts in_X6 hown hE.1.1 (hI.1.o 5 rfl) rfl 1 (by decide) q454 rfl dX6_told_150 ?_
        refine lv_iload_n hx hb dX6_told_153 rfl (lv_at hl 2 rfl) ?_
        refine lv_iload_n hx hb dX6_told_154 rfl (lv_at hl 0 rfl) ?_
        refine lv_if_ne (tgt := 163) hx hb dX6_told_155 (by decide) (fun hc => ?_) (fun hc => ?_)
        · replace hf := ineg hc hf
          refine lv_aload_n hx hb dX6_told_163 rfl (lv_at hl 1 rfl) ?_
          refine gget hx hb hts in_X6 hown hE.1.1 (hI.1.o 5 rfl) rfl 0 (by decide) q453 rfl dX6_told_164 ?_
          refine lv_iload_n hx hb dX6_told_167 rfl (lv_at hl 2 rfl) ?_
          obtain ⟨x168, ex168, hf⟩ := obd hf
          refine gald hx hb hE.1.1 0 (hI.1.o 6 rfl) rfl ex168 dX6_told_168 ?_
          refine lv_iload_n hx hb dX6_told_169 rfl (lv_at hl 0 rfl) ?_
          refine lv_iadd hx hb dX6_told_170 ?_
          obtain ⟨g171, eg171, hf⟩ := obd hf
          obtain ⟨t171, et171, hf⟩ := obd hf
          refine gast hx hb hE.1.1 0 (hI.1.o 7 rfl) rfl eg171 dX6_told_171 (fun H locs h1 h2 h3 h4 => ?_)
          have hI := hI.putO (σ' := cou t132 (mset (co t132) 6 g171)) (P := 7) rfl rfl ⟨rfl, rfl⟩ h1 h2 h3 h4
          rw [Option.some.inj et171] at hI
          obtain ⟨v172, ev172, hf⟩ := obd hf
          refine lv_iinc (v := v172) (lv' := [(2, .int v172), (3, .int x147), (0, .ref (o + 86))]) hx hb dX6_told_172 hl (k := 2) rfl (iiE ev172 (by decide)) (by decide) rfl (fun ls hl => ?_)
          refine lv_goto (tgt := 95) hx hb dX6_told_175 (by decide) ?_
          exact ih t171 v172 H locs ls hf hI (lv_sub hl [2, 0] rfl)
        · replace hf := ipos hc hf
          refine lv_ldc hx hb hown (hts _ q1932) dX6_told_158 ?_
          refine lv_goto (tgt := 171) hx hb dX6_told_160 (by decide) ?_
          obtain ⟨g171_9, eg171_9, hf⟩ := obd hf
          obtain ⟨t171_10, et171_10, hf⟩ := obd hf
          refine gast hx hb hE.1.1 0 (hI.1.o 7 rfl) rfl eg171_9 dX6_told_171 (fun H locs h1 h2 h3 h4 => ?_)
          have hI := hI.putO (σ' := cou t132 (mset (co t132) 6 g171_9)) (P := 7) rfl rfl ⟨rfl, rfl⟩ h1 h2 h3 h4
          rw [Option.some.inj et171_10] at hI
          obtain ⟨v172_11, ev172_11, hf⟩ := obd hf
          refine lv_iinc (v := v172_11) (lv' := [(2, .int v172_11), (3, .int x147), (0, .ref (o + 86))]) hx hb dX6_told_172 hl (k := 2) rfl (iiE ev172_11 (by decide)) (by decide) rfl (fun ls hl => ?_)
          refine lv_goto (tgt := 95) hx hb dX6_told_175 (by decide) ?_
          exact ih t171_10 v172_11 H locs ls hf hI (lv_sub hl [2, 0] rfl)
  have hJ40 : ∀ (n : Nat) (τ : Cs) (x2 : Int32) (H : Heap) (locs : List Loc) (ls : Array Slot), X6_told_L40 n τ x2 = some out → IC D J o Ld s H locs τ → lv_has ls 4 [(0, .ref (o + 86)), (1, .ref (o + 61)), (2, .int x2)] → W p l e ({ frames := 11, cells := 1, slots := 6, locals := 320 } : Room) s m args below meth c H locs 0 0 Q (F0 m 40 ls []) := by
    intro n
    induction n with
    | zero =>
      intro τ x2 H locs ls hf hI hl
      cases hf
    | succ n ih =>
      intro τ x2 H locs ls hf hI hl
      rw [X6_told_L40] at hf
      refine lv_iload_n hx hb dX6_told_40 rfl (lv_at hl 2 rfl) ?_
      refine lv_aload_n hx hb dX6_told_41 rfl (lv_at hl 1 rfl) ?_
      refine ggetN hx hb hts in_X3 hown hE.1.1 (hI.1.o 1 rfl) rfl 2 (by decide) (hE.1.2.2.f 37 rfl) rfl dX6_told_42 ?_
      refine lv_icmp_ge (tgt := 93) hx hb dX6_told_45 (by decide) (fun hc => ?_) (fun hc => ?_)
      · replace hf := ipos hc hf
        refine lv_iconst (v := (0 : Int32)) hx hb dX6_told_93 (by decide) ?_
        refine lv_istore_n (lv' := [(2, .int (0 : Int32)), (0, .ref (o + 86)), (1, .ref (o + 61))]) hx hb dX6_told_94 rfl hl (by decide) rfl (fun ls hl => ?_)
        exact hJ95 FU τ (0 : Int32) H locs ls hf hI (lv_sub hl [1, 0] rfl)
      · replace hf := ineg hc hf
        refine lv_aload_n hx hb dX6_told_48 rfl (lv_at hl 1 rfl) ?_
        refine ggetN hx hb hts in_X3 hown hE.1.1 (hI.1.o 1 rfl) rfl 0 (by decide) (hE.1.2.2.f 36 rfl) rfl dX6_told_49 ?_
        refine lv_iload_n hx hb dX6_told_52 rfl (lv_at hl 2 rfl) ?_
        obtain ⟨x53, ex53, hf⟩ := obd hf
        refine gbld hx hb hE.1.1 2 (hI.1.o 2 rfl) rfl ex53 dX6_told_53 ?_
        refine lv_iconst (v := (0 : Int32)) hx hb dX6_told_54 (by decide) ?_
        refine lv_bipush (v := (60 : Int32)) hx hb dX6_told_55 (by decide) ?_
        obtain ⟨x57, ex57, hf⟩ := obd hf
        refine tcallSN (rest := []) hx hb hts hown hml hl.1 (mX1_in x53 (0 : Int32) (60 : Int32) _ ex57) (cnX1_in_X6 hts hE.1.2.2 ⟨Nat.le_of_ble_eq_true rfl, Nat.le_of_ble_eq_true rfl⟩) ⟨Nat.le_of_ble_eq_true rfl, Nat.le_of_ble_eq_true rfl⟩ rfl rfl (lv_room (Nat.le_of_ble_eq_true rfl)) dX6_told_57 ?_
        refine lv_if_eq (tgt := 83) hx hb dX6_told_60 (by decide) (fun hc => ?_) (fun hc => ?_)
        · replace hf := ipos hc hf
          refine lv_iconst (v := (0 : Int32)) hx hb dX6_told_83 (by decide) ?_
          obtain ⟨x84, ex84, hf⟩ := obd hf
          rcases x84 with _ | nx84
          rotate_left
          · replace hf := oelS hf
            exact xcallSN (rest := []) hx hb hts hst hown hE hT hI hml hl.1 (mX1_demand (0 : Int32) _ ex84) (cnX1_demand_X6 hts hE.1.2.2 ⟨Nat.le_of_ble_eq_true rfl, Nat.le_of_ble_eq_true rfl⟩) ⟨Nat.le_of_ble_eq_true rfl, Nat.le_of_ble_eq_true rfl⟩ rfl rfl (lv_room (Nat.le_of_ble_eq_true rfl)) dX6_told_84 (fun E ce q9 n H locs ho hn hI h1 h2 h3 => by cases ho; exact hxx H locs 84 ls _ _ _ E ce q9 _ _ hI (Option.some.inj hf).symm hn h1 h2 h3 (Nat.le_of_ble_eq_true rfl) (Nat.le_of_ble_eq_true rfl)) (fun ho => by cases ho)
          replace hf := oelN hf
          refine tcallSvN (rest := []) hx hb hts hown hml hl.1 (nX1_demand (0 : Int32) ex84) (dnX1_demand_X6 hts hE.1.2.2 ⟨Nat.le_of_ble_eq_true rfl, Nat.le_of_ble_eq_true rfl⟩) ⟨Nat.le_of_ble_eq_true rfl, Nat.le_of_ble_eq_true rfl⟩ rfl rfl (lv_room (Nat.le_of_ble_eq_true rfl)) dX6_told_84 ?_
          obtain ⟨v87, ev87, hf⟩ := obd hf
          refine lv_iinc (v := v87) (lv' := [(2, .int v87), (0, .ref (o + 86)), (1, .ref (o + 61))]) hx hb dX6_told_87 hl (k := 2) rfl (iiE ev87 (by decide)) (by decide) rfl (fun ls hl => ?_)
          refine lv_goto (tgt := 40) hx hb dX6_told_90 (by decide) ?_
          exact ih τ v87 H locs ls hf hI (lv_sub hl [1, 2, 0] rfl)
        · replace hf := ineg hc hf
          refine lv_aload_n hx hb dX6_told_63 rfl (lv_at hl 1 rfl) ?_
          refine ggetN hx hb hts in_X3 hown hE.1.1 (hI.1.o 1 rfl) rfl 0 (by decide) (hE.1.2.2.f 36 rfl) rfl dX6_told_64 ?_
          refine lv_iload_n hx hb dX6_told_67 rfl (lv_at hl 2 rfl) ?_
          refine lv_iconst (v := (1 : Int32)) hx hb dX6_told_68 (by decide) ?_
          refine lv_iadd hx hb dX6_told_69 ?_
          obtain ⟨x70, ex70, hf⟩ := obd hf
          refine gbld hx hb hE.1.1 2 (hI.1.o 2 rfl) rfl ex70 dX6_told_70 ?_
          refine lv_iconst (v := (0 : Int32)) hx hb dX6_told_71 (by decide) ?_
          refine lv_iconst (v := (1 : Int32)) hx hb dX6_told_72 (by decide) ?_
          obtain ⟨x73, ex73, hf⟩ := obd hf
          refine tcallSN (rest := []) hx hb hts hown hml hl.1 (mX1_in x70 (0 : Int32) (1 : Int32) _ ex73) (cnX1_in_X6 hts hE.1.2.2 ⟨Nat.le_of_ble_eq_true rfl, Nat.le_of_ble_eq_true rfl⟩) ⟨Nat.le_of_ble_eq_true rfl, Nat.le_of_ble_eq_true rfl⟩ rfl rfl (lv_room (Nat.le_of_ble_eq_true rfl)) dX6_told_73 ?_
          refine lv_if_eq (tgt := 83) hx hb dX6_told_76 (by decide) (fun hc => ?_) (fun hc => ?_)
          · replace hf := ipos hc hf
            refine lv_iconst (v := (0 : Int32)) hx hb dX6_told_83 (by decide) ?_
            obtain ⟨x84_18, ex84_18, hf⟩ := obd hf
            rcases x84_18 with _ | nx84_18
            rotate_left
            · replace hf := oelS hf
              exact xcallSN (rest := []) hx hb hts hst hown hE hT hI hml hl.1 (mX1_demand (0 : Int32) _ ex84_18) (cnX1_demand_X6 hts hE.1.2.2 ⟨Nat.le_of_ble_eq_true rfl, Nat.le_of_ble_eq_true rfl⟩) ⟨Nat.le_of_ble_eq_true rfl, Nat.le_of_ble_eq_true rfl⟩ rfl rfl (lv_room (Nat.le_of_ble_eq_true rfl)) dX6_told_84 (fun E ce q9 n H locs ho hn hI h1 h2 h3 => by cases ho; exact hxx H locs 84 ls _ _ _ E ce q9 _ _ hI (Option.some.inj hf).symm hn h1 h2 h3 (Nat.le_of_ble_eq_true rfl) (Nat.le_of_ble_eq_true rfl)) (fun ho => by cases ho)
            replace hf := oelN hf
            refine tcallSvN (rest := []) hx hb hts hown hml hl.1 (nX1_demand (0 : Int32) ex84_18) (dnX1_demand_X6 hts hE.1.2.2 ⟨Nat.le_of_ble_eq_true rfl, Nat.le_of_ble_eq_true rfl⟩) ⟨Nat.le_of_ble_eq_true rfl, Nat.le_of_ble_eq_true rfl⟩ rfl rfl (lv_room (Nat.le_of_ble_eq_true rfl)) dX6_told_84 ?_
            obtain ⟨v87_19, ev87_19, hf⟩ := obd hf
            refine lv_iinc (v := v87_19) (lv' := [(2, .int v87_19), (0, .ref (o + 86)), (1, .ref (o + 61))]) hx hb dX6_told_87 hl (k := 2) rfl (iiE ev87_19 (by decide)) (by decide) rfl (fun ls hl => ?_)
            refine lv_goto (tgt := 40) hx hb dX6_told_90 (by decide) ?_
            exact ih τ v87_19 H locs ls hf hI (lv_sub hl [1, 2, 0] rfl)
          · replace hf := ineg hc hf
            refine lv_iconst (v := (1 : Int32)) hx hb dX6_told_79 (by decide) ?_
            refine lv_goto (tgt := 84) hx hb dX6_told_80 (by decide) ?_
            obtain ⟨x84_20, ex84_20, hf⟩ := obd hf
            rcases x84_20 with _ | nx84_20
            rotate_left
            · replace hf := oelS hf
              exact xcallSN (rest := []) hx hb hts hst hown hE hT hI hml hl.1 (mX1_demand (1 : Int32) _ ex84_20) (cnX1_demand_X6 hts hE.1.2.2 ⟨Nat.le_of_ble_eq_true rfl, Nat.le_of_ble_eq_true rfl⟩) ⟨Nat.le_of_ble_eq_true rfl, Nat.le_of_ble_eq_true rfl⟩ rfl rfl (lv_room (Nat.le_of_ble_eq_true rfl)) dX6_told_84 (fun E ce q9 n H locs ho hn hI h1 h2 h3 => by cases ho; exact hxx H locs 84 ls _ _ _ E ce q9 _ _ hI (Option.some.inj hf).symm hn h1 h2 h3 (Nat.le_of_ble_eq_true rfl) (Nat.le_of_ble_eq_true rfl)) (fun ho => by cases ho)
            replace hf := oelN hf
            refine tcallSvN (rest := []) hx hb hts hown hml hl.1 (nX1_demand (1 : Int32) ex84_20) (dnX1_demand_X6 hts hE.1.2.2 ⟨Nat.le_of_ble_eq_true rfl, Nat.le_of_ble_eq_true rfl⟩) ⟨Nat.le_of_ble_eq_true rfl, Nat.le_of_ble_eq_true rfl⟩ rfl rfl (lv_room (Nat.le_of_ble_eq_true rfl)) dX6_told_84 ?_
            obtain ⟨v87_21, ev87_21, hf⟩ := obd hf
            refine lv_iinc (v := v87_21) (lv' := [(2, .int v87_21), (0, .ref (o + 86)), (1, .ref (o + 61))]) hx hb dX6_told_87 hl (k := 2) rfl (iiE ev87_21 (by decide)) (by decide) rfl (fun ls hl => ?_)
            refine lv_goto (tgt := 40) hx hb dX6_told_90 (by decide) ?_
            exact ih τ v87_21 H locs ls hf hI (lv_sub hl [1, 2, 0] rfl)
  have hJ35 : ∀ (τ : Cs) (y0 : Int32) (H : Heap) (locs : List Loc) (ls : Array Slot), X6_told_J35 τ y0 = some out → IC D J o Ld s H locs τ → lv_has ls 4 [(0, .ref (o + 86)), (1, .ref (o + 61))] → W p l e ({ frames := 11, cells := 1, slots := 6, locals := 320 } : Room) s m args below meth c H locs 0 0 Q (F0 m 35 ls [.int y0]) := by
    intro τ y0 H locs ls hf hI hl
    unfold X6_told_J35 at hf
    obtain ⟨x35, ex35, hf⟩ := obd hf
    rcases x35 with _ | nx35
    rotate_left
    · replace hf := oelS hf
      exact xcallSN (rest := []) hx hb hts hst hown hE hT hI hml hl.1 (mX1_demand y0 _ ex35) (cnX1_demand_X6 hts hE.1.2.2 ⟨Nat.le_of_ble_eq_true rfl, Nat.le_of_ble_eq_true rfl⟩) ⟨Nat.le_of_ble_eq_true rfl, Nat.le_of_ble_eq_true rfl⟩ rfl rfl (lv_room (Nat.le_of_ble_eq_true rfl)) dX6_told_35 (fun E ce q9 n H locs ho hn hI h1 h2 h3 => by cases ho; exact hxx H locs 35 ls _ _ _ E ce q9 _ _ hI (Option.some.inj hf).symm hn h1 h2 h3 (Nat.le_of_ble_eq_true rfl) (Nat.le_of_ble_eq_true rfl)) (fun ho => by cases ho)
    replace hf := oelN hf
    refine tcallSvN (rest := []) hx hb hts hown hml hl.1 (nX1_demand y0 ex35) (dnX1_demand_X6 hts hE.1.2.2 ⟨Nat.le_of_ble_eq_true rfl, Nat.le_of_ble_eq_true rfl⟩) ⟨Nat.le_of_ble_eq_true rfl, Nat.le_of_ble_eq_true rfl⟩ rfl rfl (lv_room (Nat.le_of_ble_eq_true rfl)) dX6_told_35 ?_
    refine lv_iconst (v := (0 : Int32)) hx hb dX6_told_38 (by decide) ?_
    refine lv_istore_n (lv' := [(2, .int (0 : Int32)), (0, .ref (o + 86)), (1, .ref (o + 61))]) hx hb dX6_told_39 rfl hl (by decide) rfl (fun ls hl => ?_)
    exact hJ40 FU τ (0 : Int32) H locs ls hf hI (lv_sub hl [1, 2, 0] rfl)
  have hJ34 : ∀ (τ : Cs) (H : Heap) (locs : List Loc) (ls : Array Slot), X6_told_J34 τ = some out → IC D J o Ld s H locs τ → lv_has ls 4 [(0, .ref (o + 86)), (1, .ref (o + 61))] → W p l e ({ frames := 11, cells := 1, slots := 6, locals := 320 } : Room) s m args below meth c H locs 0 0 Q (F0 m 34 ls []) := by
    intro τ  H locs ls hf hI hl
    unfold X6_told_J34 at hf
    refine lv_iconst (v := (0 : Int32)) hx hb dX6_told_34 (by decide) ?_
    exact hJ35 τ (0 : Int32) H locs ls hf hI (lv_sub hl [0, 1] rfl)
  refine lv_aload_n hx hb dX6_told_0 rfl (lv_at hl 0 rfl) ?_
  refine gget hx hb hts in_X6 hown hE.1.1 (hI.1.o 5 rfl) rfl 2 (by decide) q455 rfl dX6_told_1 ?_
  refine ggetN hx hb hts in_X1 hown hE.1.1 (hI.1.o 0 rfl) rfl 4 (by decide) (hE.1.2.2.f 56 rfl) rfl dX6_told_4 ?_
  refine lv_astore_n (lv' := [(1, .ref (o + 61)), (0, .ref (o + 86))]) hx hb dX6_told_7 rfl hl (by decide) rfl (fun ls hl => ?_)
  refine lv_aload_n hx hb dX6_told_8 rfl (lv_at hl 0 rfl) ?_
  obtain ⟨t9, et9, hf⟩ := obd hf
  refine ccallV (rest := []) hx hb hts hown hE hI hml hl.1 (mX3_begins Λ Λn τ _ et9) (cwX3_begins_X6 hts ⟨Nat.le_of_ble_eq_true rfl, Nat.le_of_ble_eq_true rfl⟩) (hI.1.o 1 rfl) rfl rfl ⟨Nat.le_of_ble_eq_true rfl, Nat.le_of_ble_eq_true rfl⟩ rfl rfl (lv_room (Nat.le_of_ble_eq_true rfl)) dX6_told_9 (fun H locs hI => ?_)
  refine lv_aload_n hx hb dX6_told_12 rfl (lv_at hl 0 rfl) ?_
  refine ggetN hx hb hts in_X3 hown hE.1.1 (hI.1.o 1 rfl) rfl 2 (by decide) (hE.1.2.2.f 37 rfl) rfl dX6_told_13 ?_
  refine lv_iconst (v := (2 : Int32)) hx hb dX6_told_16 (by decide) ?_
  refine lv_irem hx hb dX6_told_17 (by decide) ?_
  refine lv_if_ne (tgt := 34) hx hb dX6_told_18 (by decide) (fun hc => ?_) (fun hc => ?_)
  · replace hf := ineg hc hf
    exact hJ34 t9 H locs ls hf hI (lv_sub hl [1, 0] rfl)
  · replace hf := ipos hc hf
    refine lv_aload_n hx hb dX6_told_21 rfl (lv_at hl 0 rfl) ?_
    refine ggetN hx hb hts in_X3 hown hE.1.1 (hI.1.o 1 rfl) rfl 2 (by decide) (hE.1.2.2.f 37 rfl) rfl dX6_told_22 ?_
    refine lv_bipush (v := (40 : Int32)) hx hb dX6_told_25 (by decide) ?_
    refine lv_icmp_gt (tgt := 34) hx hb dX6_told_27 (by decide) (fun hc => ?_) (fun hc => ?_)
    · replace hf := ipos hc hf
      exact hJ34 t9 H locs ls hf hI (lv_sub hl [1, 0] rfl)
    · replace hf := ineg hc hf
      refine lv_iconst (v := (1 : Int32)) hx hb dX6_told_30 (by decide) ?_
      refine lv_goto (tgt := 35) hx hb dX6_told_31 (by decide) ?_
      exact hJ35 t9 (1 : Int32) H locs ls hf hI (lv_sub hl [1, 0] rfl)

theorem cwX6_told_X1 {R : Room} {s : State} {args : Array Value} {fr lo : Nat} (hts : ∀ w ∈ lw_all, w.before args s = true) (hR : fr + 1 ≤ R.frames ∧ 8 + (4 + 11) + lo ≤ R.locals) : CallW R s args RX1 RX6 586 yX6_told cX6_told 4 (some (.object "LateInks$Jars")) (ws_ yX6_told cX6_told 4 (some (.object "LateInks$Jars"))) ({ frames := fr, cells := 1, slots := 6, locals := lo }) 1 6 0 :=
  cwV 0 hts (lw_V q1924 q1925 q1926 q142 q1927) rfl rfl rfl (by decide +kernel) hR
theorem cwX6_inks_X1 {R : Room} {s : State} {args : Array Value} {fr lo : Nat} (hts : ∀ w ∈ lw_all, w.before args s = true) (hR : fr + 1 ≤ R.frames ∧ 8 + (3 + 11) + lo ≤ R.locals) : CallW R s args RX1 RX6 590 yX6_inks cX6_inks 3 (some .int) (ws_ yX6_inks cX6_inks 3 (some .int)) ({ frames := fr, cells := 0, slots := 0, locals := lo }) 0 0 0 :=
  cwV 0 hts (lw_V q1933 q1934 q1935 q142 q1936) rfl rfl rfl (by decide +kernel) hR
theorem cwX6_many_X1 {R : Room} {s : State} {args : Array Value} {fr lo : Nat} (hts : ∀ w ∈ lw_all, w.before args s = true) (hR : fr + 1 ≤ R.frames ∧ 8 + (3 + 11) + lo ≤ R.locals) : CallW R s args RX1 RX6 592 yX6_many cX6_many 3 (some .int) (ws_ yX6_many cX6_many 3 (some .int)) ({ frames := fr, cells := 0, slots := 0, locals := lo }) 0 0 0 :=
  cwV 0 hts (lw_V q1945 q1946 q1947 q142 q1948) rfl rfl rfl (by decide +kernel) hR
def X1_jars (τ : Cs) (a1 : Int32) : Option Xo :=
  (X6_told τ).bind fun x4 =>
  Sum.elim (fun (v4 : Int32 × Cs) =>
    if a1 = (0 : Int32) then
      (X6_many v4.2).bind fun x26 =>
      some (.inl (x26, v4.2))
    else
      (X6_inks v4.2).bind fun x16 =>
      some (.inl (x16, v4.2))) (fun (u : Nat × Cs) => some (.inr u)) x4
set_option maxHeartbeats 4000000 in
theorem mX1_jars (Λ : Nat → Nat → (Nat → Int32) → Int32) (Λn : Nat → Int32) (τ : Cs) (a1 : Int32) (out : Xo) (hf : X1_jars τ a1 = some out) : CXi yX1_jars cX1_jars 2 (some .int) 12 343 1 6 Λ Λn (fun o aK aF => [.ref o, .int a1]) out τ := by
  refine CXi.of (by decide) (fun _ _ _ => Nat.le_of_ble_eq_true rfl) ?_
  intro p l e s m args below meth c D J o z aK aV G Ld aF Q ls hst hx hb hml hown hts hE hT hret hxx hthr hI hl
  obtain ⟨H, eH⟩ : ∃ H, H = s.heap := ⟨_, rfl⟩
  obtain ⟨locs, eL⟩ : ∃ L : List Loc, L = [] := ⟨_, rfl⟩
  rw [← eH, ← eL] at hI ⊢
  have hown : s.vm.findClass RX1 = some m.cls := hown
  have hl : lv_has ls 2 [(0, .ref o), (1, .int a1)] := hl
  unfold X1_jars at hf
  refine lv_aload_n hx hb dX1_jars_0 rfl (lv_at hl 0 rfl) ?_
  refine gget hx hb hts in_X1 hown hE.1.1 (hI.1.o 0 rfl) rfl 9 (by decide) q475 rfl dX1_jars_1 ?_
  obtain ⟨x4, ex4, hf⟩ := obd hf
  refine xcallR (rest := []) hx hb hts hst hown hE hT hI hml hl.1 (mX6_told Λ Λn τ _ ex4) (cwX6_told_X1 hts ⟨Nat.le_of_ble_eq_true rfl, Nat.le_of_ble_eq_true rfl⟩) (hI.1.o 5 rfl) rfl rfl ⟨Nat.le_of_ble_eq_true rfl, Nat.le_of_ble_eq_true rfl⟩ rfl rfl (lv_room (Nat.le_of_ble_eq_true rfl)) dX1_jars_4 (fun E ce q9 n σ' H locs ho hn hI h1 h2 h3 => by subst ho; have hf := selR hf; exact hxx H locs 4 ls _ _ _ E ce q9 n σ' hI (Option.some.inj hf).symm hn h1 h2 h3 (Nat.le_of_ble_eq_true rfl) (Nat.le_of_ble_eq_true rfl)) (fun v4 H locs ho hI => ?_)
  subst ho
  replace hf := selL hf
  refine lv_pop hx hb dX1_jars_7 rfl ?_
  refine lv_iload_n hx hb dX1_jars_8 rfl (lv_at hl 1 rfl) ?_
  refine lv_if_eq (tgt := 22) hx hb dX1_jars_9 (by decide) (fun hc => ?_) (fun hc => ?_)
  · replace hf := ipos hc hf
    refine lv_aload_n hx hb dX1_jars_22 rfl (lv_at hl 0 rfl) ?_
    refine gget hx hb hts in_X1 hown hE.1.1 (hI.1.o 0 rfl) rfl 9 (by decide) q475 rfl dX1_jars_23 ?_
    obtain ⟨x26, ex26, hf⟩ := obd hf
    refine ccallI (rest := []) hx hb hts hown hE hI hml hl.1 (mX6_many Λ Λn v4.2 _ ex26) (cwX6_many_X1 hts ⟨Nat.le_of_ble_eq_true rfl, Nat.le_of_ble_eq_true rfl⟩) (hI.1.o 5 rfl) rfl rfl ⟨Nat.le_of_ble_eq_true rfl, Nat.le_of_ble_eq_true rfl⟩ rfl rfl (lv_room (Nat.le_of_ble_eq_true rfl)) dX1_jars_26 (fun H locs hI => ?_)
    exact hret H locs 29 ls _ _ hI (Option.some.inj hf).symm dX1_jars_29
  · replace hf := ineg hc hf
    refine lv_aload_n hx hb dX1_jars_12 rfl (lv_at hl 0 rfl) ?_
    refine gget hx hb hts in_X1 hown hE.1.1 (hI.1.o 0 rfl) rfl 9 (by decide) q475 rfl dX1_jars_13 ?_
    obtain ⟨x16, ex16, hf⟩ := obd hf
    refine ccallI (rest := []) hx hb hts hown hE hI hml hl.1 (mX6_inks Λ Λn v4.2 _ ex16) (cwX6_inks_X1 hts ⟨Nat.le_of_ble_eq_true rfl, Nat.le_of_ble_eq_true rfl⟩) (hI.1.o 5 rfl) rfl rfl ⟨Nat.le_of_ble_eq_true rfl, Nat.le_of_ble_eq_true rfl⟩ rfl rfl (lv_room (Nat.le_of_ble_eq_true rfl)) dX1_jars_16 (fun H locs hI => ?_)
    refine lv_goto (tgt := 29) hx hb dX1_jars_19 (by decide) ?_
    exact hret H locs 29 ls _ _ hI (Option.some.inj hf).symm dX1_jars_29

theorem cwX6_ask_X1 {R : Room} {s : State} {args : Array Value} {fr lo : Nat} (hts : ∀ w ∈ lw_all, w.before args s = true) (hR : fr + 1 ≤ R.frames ∧ 8 + (6 + 11) + lo ≤ R.locals) : CallW R s args RX1 RX6 595 yX6_ask cX6_ask 6 (some .int) (ws_ yX6_ask cX6_ask 6 (some .int)) ({ frames := fr, cells := 0, slots := 0, locals := lo }) 0 0 0 :=
  cwV 0 hts (lw_V q1956 q1957 q1958 q142 q1959) rfl rfl rfl (by decide +kernel) hR
def X1_ask (τ : Cs) : Option Xo :=
  (X6_told τ).bind fun x4 =>
  Sum.elim (fun (v4 : Int32 × Cs) =>
    (X6_ask v4.2).bind fun x7 =>
    some (.inl (x7, v4.2))) (fun (u : Nat × Cs) => some (.inr u)) x4
set_option maxHeartbeats 4000000 in
theorem mX1_ask (Λ : Nat → Nat → (Nat → Int32) → Int32) (Λn : Nat → Int32) (τ : Cs) (out : Xo) (hf : X1_ask τ = some out) : CXi yX1_ask cX1_ask 1 (some .int) 12 343 1 6 Λ Λn (fun o aK aF => [.ref o]) out τ := by
  refine CXi.of (by decide) (fun _ _ _ => Nat.le_of_ble_eq_true rfl) ?_
  intro p l e s m args below meth c D J o z aK aV G Ld aF Q ls hst hx hb hml hown hts hE hT hret hxx hthr hI hl
  obtain ⟨H, eH⟩ : ∃ H, H = s.heap := ⟨_, rfl⟩
  obtain ⟨locs, eL⟩ : ∃ L : List Loc, L = [] := ⟨_, rfl⟩
  rw [← eH, ← eL] at hI ⊢
  have hown : s.vm.findClass RX1 = some m.cls := hown
  have hl : lv_has ls 1 [(0, .ref o)] := hl
  unfold X1_ask at hf
  refine lv_aload_n hx hb dX1_ask_0 rfl (lv_at hl 0 rfl) ?_
  refine gget hx hb hts in_X1 hown hE.1.1 (hI.1.o 0 rfl) rfl 9 (by decide) q475 rfl dX1_ask_1 ?_
  obtain ⟨x4, ex4, hf⟩ := obd hf
  refine xcallR (rest := []) hx hb hts hst hown hE hT hI hml hl.1 (mX6_told Λ Λn τ _ ex4) (cwX6_told_X1 hts ⟨Nat.le_of_ble_eq_true rfl, Nat.le_of_ble_eq_true rfl⟩) (hI.1.o 5 rfl) rfl rfl ⟨Nat.le_of_ble_eq_true rfl, Nat.le_of_ble_eq_true rfl⟩ rfl rfl (lv_room (Nat.le_of_ble_eq_true rfl)) dX1_ask_4 (fun E ce q9 n σ' H locs ho hn hI h1 h2 h3 => by subst ho; have hf := selR hf; exact hxx H locs 4 ls _ _ _ E ce q9 n σ' hI (Option.some.inj hf).symm hn h1 h2 h3 (Nat.le_of_ble_eq_true rfl) (Nat.le_of_ble_eq_true rfl)) (fun v4 H locs ho hI => ?_)
  subst ho
  replace hf := selL hf
  obtain ⟨x7, ex7, hf⟩ := obd hf
  refine ccallI (rest := []) hx hb hts hown hE hI hml hl.1 (mX6_ask Λ Λn v4.2 _ ex7) (cwX6_ask_X1 hts ⟨Nat.le_of_ble_eq_true rfl, Nat.le_of_ble_eq_true rfl⟩) (hI.1.o 5 rfl) rfl rfl ⟨Nat.le_of_ble_eq_true rfl, Nat.le_of_ble_eq_true rfl⟩ rfl rfl (lv_room (Nat.le_of_ble_eq_true rfl)) dX1_ask_7 (fun H locs hI => ?_)
  exact hret H locs 10 ls _ _ hI (Option.some.inj hf).symm dX1_ask_10
