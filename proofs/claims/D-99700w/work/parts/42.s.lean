/-- the oldest one is forgotten -/
def shU (σ : Cs) : Cs := (fun k => if k < 5 then cw σ k else cw σ (k + 1), fun r j => if r = 9 ∧ j = 0 then 11 else co σ r j, fun k => if k < 5 then cl σ k else cl σ (k + 1), cq σ)
/-- the world is remembered -/
def puU (σ : Cs) : Cs := (fun k => if k = 5 + (co σ 9 0).toNatClampNeg then cw σ 0 else cw σ k, fun r j => if r = 9 ∧ j = 0 then co σ 9 0 + 1 else co σ r j, fun k => if k = 5 + (co σ 9 0).toNatClampNeg then cl σ 0 else cl σ k, cq σ)
def X1_remembers (σ : Cs) : Option Cs := if okZ 6 (cw σ 0 14) = true ∧ okZ 8 (cw σ 0 15) = true then some (puU (if co σ 9 0 = 12 then shU σ else σ)) else none
/-- n of them are left -/
def nuU (σ : Cs) (n : Int32) : Cs := (σ.1, fun r j => if r = 9 ∧ j = 0 then n else co σ r j, σ.2.2)
def X1_undo (σ : Cs) : Option (Int32 × Cs) := if co σ 9 0 = 0 then some (0, σ) else (clk (nuU σ (co σ 9 0 - 1)) 0 (5 + (co σ 9 0 - 1).toNatClampNeg)).bind fun t => some (1, t)
theorem PC.w5 {D : va_G} {J : Nat → ClassId} {o : Nat} {Ld : Nat → Prop} {σ σ' : Cs} {H : Heap} (hP : PC D J o Ld σ H) (h1 : ∀ k, k < 5 → cw σ' k = cw σ k ∧ cl σ' k = cl σ k) (h2 : ctO J o σ' = ctO J o σ) : PC D J o Ld σ' H := by
  refine ⟨fun k hk => ?_, by rw [h2]; exact hP.2.1, fun k hk a ha => hP.2.2 k hk a (by rw [← (h1 k hk).2]; exact ha)⟩
  rw [(h1 k hk).1, (h1 k hk).2]
  exact hP.1 k hk
theorem nI_inj {i j : Nat} (hi : i < 2 ^ 31) (hj : j < 2 ^ 31) (h : nI i = nI j) : i = j := by
  have := congrArg Int32.toNatClampNeg h
  rwa [nI_clamp hi, nI_clamp hj] at this
theorem lsF_up {n : Nat} {u : Nat → Nat} {x : Nat} : va_up (lsF n u) n (some x) = lsF (n + 1) (fun j => if j = n then x else u j) := by
  funext j
  unfold va_up lsF
  by_cases e : j = n
  · subst e
    rw [if_pos rfl, if_pos (by omega)]
    show some x = some (if j = j then x else u j)
    rw [if_pos rfl]
  · rw [if_neg e]
    show (if j < n then some (u j) else none) = _
    by_cases h : j < n
    · rw [if_pos h, if_pos (by omega)]
      show some (u j) = some (if j = n then x else u j)
      rw [if_neg e]
    · rw [if_neg h, if_neg (by omega)]
theorem lsF_cpy {n : Nat} {u : Nat → Nat} : va_cpy (lsF n u) (fun _ => none) 0 0 n = lsF n u := by
  funext j
  unfold va_cpy lsF
  by_cases h : j < n
  · rw [if_pos ⟨Nat.zero_le _, by omega⟩, if_pos h, if_pos (by omega), Nat.zero_add, Nat.sub_zero]
  · rw [if_neg (fun g => h (by omega)), if_neg h]
theorem lsF_sh {n : Nat} {u : Nat → Nat} (hn : 1 ≤ n) : va_up (if 0 < n - 1 then va_cpy (lsF n u) (lsF n u) (0 + 1) 0 (n - 1 - 0) else lsF n u) (n - 1) none = lsF (n - 1) (fun j => u (j + 1)) := by
  funext j
  unfold va_up
  by_cases e : j = n - 1
  · subst e
    unfold lsF
    rw [if_pos rfl, if_neg (Nat.lt_irrefl _)]
  · rw [if_neg e]
    by_cases h : 0 < n - 1
    · rw [if_pos h]
      unfold va_cpy lsF
      by_cases g : j < n - 1
      · rw [if_pos ⟨Nat.zero_le _, by omega⟩, if_pos g, if_pos (by omega)]
        show some (u (0 + 1 + (j - 0))) = some (u (j + 1))
        rw [show 0 + 1 + (j - 0) = j + 1 by omega]
      · rw [if_neg (fun q => g (by omega)), if_neg g, if_neg (by omega)]
    · rw [if_neg h]
      unfold lsF
      rw [if_neg (by omega), if_neg (by omega)]
theorem lsF_dr {n : Nat} {u : Nat → Nat} (hn : 1 ≤ n) : va_up (if n - 1 < n - 1 then va_cpy (lsF n u) (lsF n u) (n - 1 + 1) (n - 1) (n - 1 - (n - 1)) else lsF n u) (n - 1) none = lsF (n - 1) u := by
  rw [if_neg (Nat.lt_irrefl _)]
  funext j
  unfold va_up lsF
  by_cases e : j = n - 1
  · rw [if_pos e, if_neg (by omega)]
  · rw [if_neg e]
    show (if j < n then some (u j) else none) = _
    by_cases g : j < n - 1
    · rw [if_pos g, if_pos (by omega)]
    · rw [if_neg g, if_neg (by omega)]
theorem ctO_co {J : Nat → ClassId} {o : Nat} {σ : Cs} {w : Nat → Mm} {l : Nat → Option Nat} {n : Int32} : ctO J o (w, fun r j => if r = 9 ∧ j = 0 then n else co σ r j, l, cq σ) = ctO J o σ := by
  have h : ∀ r, r ≠ 9 → (fun j => if r = 9 ∧ j = 0 then n else co σ r j) = co σ r := fun r hr => funext fun j => if_neg (fun g => hr g.1)
  rfl

theorem cwJ3_size_X1 {R : Room} {s : State} {args : Array Value} {fr lo : Nat} (hts : ∀ w ∈ lw_all, w.before args s = true) (hR : fr + 1 ≤ R.frames ∧ 8 + (1 + 11) + lo ≤ R.locals) : CallW R s args RX1 RJ3 351 yJ3_size cJ3_size 1 (some .int) (ws_ yJ3_size cJ3_size 1 (some .int)) ({ frames := fr, cells := 0, slots := 0, locals := lo }) 0 0 0 :=
  cwV 0 hts (lw_V q798 q598 q599 q141 q600) rfl rfl rfl (by decide +kernel) hR
theorem cwJ3_remove_X1 {R : Room} {s : State} {args : Array Value} {fr lo : Nat} (hts : ∀ w ∈ lw_all, w.before args s = true) (hR : fr + 1 ≤ R.frames ∧ 8 + (4 + 11) + lo ≤ R.locals) : CallW R s args RX1 RJ3 535 yJ3_remove cJ3_remove 4 (some (.object "java/lang/Object")) (ws_ yJ3_remove cJ3_remove 4 (some (.object "java/lang/Object"))) ({ frames := fr, cells := 0, slots := 0, locals := lo }) 0 0 1 :=
  cwV 1 hts (lw_V q799 q800 q801 q141 q802) rfl rfl rfl (by decide +kernel) hR
theorem cwJ3_add_X1 {R : Room} {s : State} {args : Array Value} {fr lo : Nat} (hts : ∀ w ∈ lw_all, w.before args s = true) (hR : fr + 1 ≤ R.frames ∧ 8 + (2 + 11) + lo ≤ R.locals) : CallW R s args RX1 RJ3 282 yJ3_add cJ3_add 2 (some .boolean) (ws_ yJ3_add cJ3_add 2 (some .boolean)) ({ frames := fr, cells := 0, slots := 0, locals := lo }) 0 0 1 :=
  cwV 1 hts (lw_V q1551 q1552 q1553 q141 q1554) rfl rfl rfl (by decide +kernel) hR
theorem cwJ3_clear_X1 {R : Room} {s : State} {args : Array Value} {fr lo : Nat} (hts : ∀ w ∈ lw_all, w.before args s = true) (hR : fr + 1 ≤ R.frames ∧ 8 + (4 + 11) + lo ≤ R.locals) : CallW R s args RX1 RJ3 255 yJ3_clear cJ3_clear 4 (none) (ws_ yJ3_clear cJ3_clear 4 (none)) ({ frames := fr, cells := 0, slots := 0, locals := lo }) 0 0 0 :=
  cwV 0 hts (lw_V q816 q817 q818 q141 q819) rfl rfl rfl (by decide +kernel) hR
theorem cwJ3_isEmpty_X1 {R : Room} {s : State} {args : Array Value} {fr lo : Nat} (hts : ∀ w ∈ lw_all, w.before args s = true) (hR : fr + 1 ≤ R.frames ∧ 8 + (1 + 11) + lo ≤ R.locals) : CallW R s args RX1 RJ3 664 yJ3_isEmpty cJ3_isEmpty 1 (some .boolean) (ws_ yJ3_isEmpty cJ3_isEmpty 1 (some .boolean)) ({ frames := fr, cells := 0, slots := 0, locals := lo }) 0 0 0 :=
  cwV 0 hts (lw_V q794 q795 q796 q141 q797) rfl rfl rfl (by decide +kernel) hR
set_option maxHeartbeats 4000000 in
theorem mX1_remembers (Λ : Nat → Nat → (Nat → Int32) → Int32) (Λn : Nat → Int32) (σ σ' : Cs) (hf : X1_remembers σ = some σ') : CUv yX1_remembers cX1_remembers 2 none 20 1500 70 420 Λ Λn (fun o => [.ref o]) σ σ' := by
  intro l D J o z aK aV G Ld aF e0 mi Ur N
  refine Met.ofW (cc := cX1_remembers) (maxL := 2) (ret := none) (by decide) rfl ?_
  intro p e s m args below meth c s₁ B hml hv
  obtain ⟨rfl, ⟨hN, hP, hU0⟩, ⟨⟨hE, hT⟩, hEU⟩, hUR⟩ := hv
  have hts := atoms_spec (ws := ws_ yX1_remembers cX1_remembers 2 (none)) B.pre
  have hts : ∀ w ∈ lw_all, w.before _ s = true := fun w h => hts w (List.mem_cons_of_mem _ h)
  have hown : s.vm.findClass RX1 = some m.cls := findClass_of_methodNamed B.named
  have hl := lv_entry [.ref o] (n := 2) (Nat.le_of_ble_eq_true rfl)
  rw [lg_entry_eq]
  generalize (lg_sl [.ref o] ++ List.replicate (2 - (lg_sl [.ref o]).length) Slot.unset).toArray = ls at hl ⊢
  have hl : lv_has ls 2 [(0, .ref o)] := hl
  have hx := B.exec
  have hb := B.bytes
  obtain ⟨Us, eUs⟩ : ∃ Us : Nat → Prop, Us = fun q => Ur q ∨ N ≤ q := ⟨_, rfl⟩
  have hU0 : UP D J o Ld e0 Us σ s.heap := hU0.mono (fun q h => by rw [eUs]; exact Or.inl h)
  have usA : ∀ q, Us q → AU o Ur N q := fun q h => by rw [eUs] at h; exact Or.inr (Or.inr h)
  have us1 : ∀ q, Us q → ¬ rC o q ∧ q ≠ o + 85 ∧ z ≤ q := by
    intro q h
    refine ⟨fun g => ?_, fun g => ?_, hUR.za q (usA q h)⟩
    · rw [eUs] at h
      exact hUR.us q (Or.inr (Or.inl h)) g
    · rw [eUs] at h
      rcases h with h | h
      · exact (hUR.1 q h).2.2 g
      · have := hUR.2.2.1
        omega
  have hoN := hUR.2.2.1
  have hzo := hUR.2.2.2.1
  have he0 := hUR.2.2.2.2
  have hEQ := hEU.eq hE.1
  have envZ : ∀ (H : Heap) (locs : List Loc) (U : State), va_S (AU o Ur N) s.heap H locs → U.heap = H → ∀ q : Nat, q < s.heap.size → ¬ z ≤ q → U.heap[q]? = s.heap[q]? := fun H locs U hS hU q h1 h2 => by rw [hU]; exact hS.2.1 q h1 (fun g => h2 (hUR.za q g))
  unfold X1_remembers at hf
  have hok : okZ 6 (cw σ 0 14) = true ∧ okZ 8 (cw σ 0 15) = true := by
    by_cases h : okZ 6 (cw σ 0 14) = true ∧ okZ 8 (cw σ 0 15) = true
    · exact h
    · rw [if_neg h] at hf; cases hf
  rw [if_pos hok] at hf
  have hf := Option.some.inj hf
  have tail : ∀ (Q : State → Prop), (∀ (H : Heap) (locs : List Loc) (ls : Array Slot) (cells slots : Nat), cells ≤ 70 → slots ≤ 420 → PC D J o Ld σ' H → UP D J o Ld e0 Us σ' H → va_S (AU o Ur N) s.heap H locs → W p l e ({ frames := 20, cells := 70, slots := 420, locals := 1500 } : Room) s m #[Value.ref o] below meth c H locs cells slots Q (F0 m 50 ls [])) → ∀ (H : Heap) (locs : List Loc) (ls : Array Slot) (σ1 : Cs) (n cap arr x : Nat) (mc : Int32) (u : Nat → Nat) (lx : Option Nat) (wx : Mm) (cells slots : Nat), cells ≤ 60 → slots ≤ 400 → PC D J o Ld σ1 H → va_S (AU o Ur N) s.heap H locs → UA D J o Ld e0 Us σ1 n cap arr mc u H → n < 12 → va_P D vwC (ctW J x lx wx) H → (∀ q, rW x q → Us q ∧ q ≠ arr) → (∀ i, i < n → u i + 19 < x ∨ x + 19 < u i) → okZ 6 (cw σ1 0 14) = true ∧ okZ 8 (cw σ1 0 15) = true → puU σ1 = σ' → lv_has ls 2 [(0, .ref o)] → W p l e ({ frames := 20, cells := 70, slots := 420, locals := 1500 } : Room) s m #[Value.ref o] below meth c H locs cells slots Q (F0 m 33 ls [.ref x]) := by
    intro Q hex H locs ls σ1 n cap arr x mc u lx wx cells slots hcl hsl hP hS hUA hn hX hXu hXa hok hpu hl
    obtain ⟨a1, a2, a3, a4, a5, a6, a7, a8, a9, a10⟩ := hUA
    have harr : arr ≠ o + 85 := by
      rcases Nat.eq_zero_or_pos cap with g | g
      · have := a5 g
        omega
      · exact (us1 arr (a6 g)).2.1
    have harx : ∀ q, rW x q → q ≠ arr := fun q hq => (hXu q hq).2
    have hx0 : Us x := (hXu x ⟨Nat.le_refl _, Nat.le_add_right _ _⟩).1
    have hxw : ∀ q, rC o q → ¬ rW x q := fun q h1 h2 => (us1 q (hXu q h2).1).1 h1
    have hd : x + 19 < wA o 0 ∨ wA o 0 + 19 < x := by
      rcases Nat.lt_or_ge (x + 19) (wA o 0) with g | g
      · exact Or.inl g
      rcases Nat.lt_or_ge (wA o 0 + 19) x with g2 | g2
      · exact Or.inr g2
      exfalso
      rcases Nat.lt_or_ge x (wA o 0) with g3 | g3
      · exact hxw (wA o 0) (rW_rC (k := 0) (by decide) _ ⟨Nat.le_refl _, Nat.le_add_right _ _⟩) ⟨Nat.le_of_lt g3, g⟩
      · exact hxw x (rW_rC (k := 0) (by decide) _ ⟨g3, g2⟩) ⟨Nat.le_refl _, Nat.le_add_right _ _⟩
    refine lv_astore_n (lv' := [(1, .ref x), (0, .ref o)]) hx hb dX1_remembers_33 rfl hl (by decide) rfl (fun ls hl => ?_)
    refine lv_aload_n hx hb dX1_remembers_34 rfl (lv_at hl 1 rfl) ?_
    refine gget hx hb hts in_X1 hown hE.1.1 (hP.o 0 rfl) rfl 8 (by decide) q474 rfl dX1_remembers_35 ?_
    refine lv_aload_n hx hb dX1_remembers_38 rfl (lv_at hl 0 rfl) ?_
    refine lv_aload_n hx hb dX1_remembers_39 rfl (lv_at hl 1 rfl) ?_
    refine gget hx hb hts in_X1 hown hE.1.1 (hP.o 0 rfl) rfl 0 (by decide) q463 rfl dX1_remembers_40 ?_
    refine va_callr (va_runV (As := [.ref (wA o 0)]) (rest := [.ref (o + 85)]) ⟨hx, hb, hml, hown, hts⟩ (mX2_likens l D J z aK aV x (wA o 0) lx (cl σ1 0) wx (cw σ1 0) (us1 x hx0).2.2 hd hok.1 hok.2) (cwX2_likens_X1 hts ⟨Nat.le_of_ble_eq_true rfl, Nat.le_of_ble_eq_true rfl⟩) ⟨fun a U g mk q => ⟨q.1, q.2.1, q.2.2.go (State.WarmedH.refl U) (fun _ _ _ => rfl)⟩, g_recv hE.1.1 (hX 0 _ rfl) rfl, fun U hU hW => ⟨rfl, by rw [hU]; exact ⟨hX, hP.1 0 (by decide)⟩, hE.1.go hW (envZ H locs U hS hU)⟩⟩ rfl rfl hl.1 rfl (lv_room (Nat.le_of_ble_eq_true rfl)) dX1_remembers_43 ⟨by show cells + 0 ≤ 70; omega, by show slots + 0 ≤ 420; omega⟩) hS (fun q _ h => usA q (hXu q h).1) (fun q h => usA q (hXu q h).1) (fun u9 r t H1 locs1 ht hvm hp hB hz1 hk1 hS => ?_)
    obtain ⟨rfl, hB⟩ := hB
    rw [ht] at hB
    clear hp hvm ht
    clear t
    have hP1 : PC D J o Ld σ1 H1 := hP.kept (fun q h1 h2 => hk1 q h1 (hxw q h2))
    have b7 := a7.kept (hk1 _ a7.lt (fun g => (us1 _ (hXu _ g).1).2.1 rfl))
    have b8 := a8.kept (hk1 _ a8.lt (fun g => harx _ g rfl))
    have b9 : ∀ i, i < n → va_P D vwC (ctW J (u i) (cl σ1 (5 + i)) (cw σ1 (5 + i))) H1 := fun i hi => (a9 i hi).1.kept (fun k q hk => by
      have h11 := ctW_at k q hk
      refine hk1 q.1 ((a9 i hi).1 k q hk).lt (fun g => ?_)
      have h12 := hXa i hi
      have h13 : r ≤ q.1 ∧ q.1 ≤ r + 19 := g
      omega)
    clear hk1 a7 a8 hP
    have hN1 : N ≤ H1.size := by
      have := hS.1
      omega
    have hOA : ∀ (U : State) (y : Nat) (ly : Option Nat) (wy : Mm), va_P D vwC (ctW J y ly wy) H1 → OA s H1 y := fun U y ly wy hy => OA.of hE.1.1 (hy 0 _ rfl) rfl hEU.2.2.2.2
    refine va_calli (va_runV (As := [.ref r]) (rest := []) ⟨hx, hb, hml, hown, hts⟩ (mJ3_add l D J z aK aV e0 mi (o + 85) arr cap n r H1.size mc (lsF n u) a5 (by omega) a3 (by omega) b7.lt b8.lt harr (fun g => (us1 arr (a6 (by omega))).2.2) (us1 r hx0).2.1 (fun i hi y hy => by
      unfold lsF at hy
      rw [if_pos hi] at hy
      rw [← Option.some.inj hy]
      exact (us1 _ ((a9 i hi).2.1 (u i) ⟨Nat.le_refl _, Nat.le_add_right _ _⟩).1).2.1)) (cwV 1 hts (lw_V q1551 q1552 q1553 q141 q1554) rfl rfl rfl (by decide +kernel) ⟨Nat.le_of_ble_eq_true rfl, Nat.le_of_ble_eq_true rfl⟩) ⟨fun _ U g mk q => ⟨q.1, q.2.1, q.2.2.go (State.WarmedH.refl U) (fun _ _ _ => rfl)⟩, g_recv hE.1.1 b7 rfl, fun U hU hW => ⟨rfl, by
        rw [hU]
        refine ⟨rfl, b7, b8, fun i hi y hy => ?_, (hOA U r _ _ hB).mv hW.alike rfl⟩
        unfold lsF at hy
        rw [if_pos hi] at hy
        rw [← Option.some.inj hy]
        exact (hOA U _ _ _ (b9 i hi)).mv hW.alike rfl, hEQ.go hW (envZ H1 locs1 U hS hU)⟩⟩ rfl rfl hl.1 rfl (lv_room (Nat.le_of_ble_eq_true rfl)) dX1_remembers_46 ⟨by show cells + (if n = cap then 1 else 0) ≤ 70; split <;> omega, by
          show slots + (if n = cap then gcap cap else 0) ≤ 420
          split
          · have : gcap cap ≤ 16 := by
              unfold gcap
              split
              · omega
              · split <;> omega
            omega
          · omega⟩) hS (fun q _ h => ?_) (fun q h => ?_) (fun r' u8 t H2 locs2 ht hvm hp hB2 hz2 hk2 hS => ?_)
    · rcases h with h | h | h
      · exact Or.inr (Or.inl h)
      · rw [h.1]; exact usA _ (a6 (by omega))
      · refine usA _ ?_
        rw [eUs]
        have := hS.1
        exact Or.inr (by omega)
    · rcases h with h | h | h
      · exact Or.inr (Or.inl h)
      · rw [h.1]; exact usA _ (a6 (by omega))
      · refine usA _ ?_
        rw [eUs]
        have := hS.1
        exact Or.inr (by omega)
    rw [ht] at hB2
    clear hp hvm ht
    clear t
    refine lv_pop hx hb dX1_remembers_49 rfl ?_
    have kk2 : ∀ q : Nat, q < H1.size → q ≠ o + 85 → q ≠ arr → H2[q]? = H1[q]? := fun q h1 h2 h3 => hk2 q h1 (fun g => by
      rcases g with g | g | g
      · exact h2 g
      · exact h3 g.1
      · omega)
    have hP2 : PC D J o Ld σ1 H2 := hP1.kept (fun q h1 h2 => kk2 q h1 (fun g => h2.2.2 g) (fun g => by
      rcases Nat.eq_zero_or_pos cap with e | e
      · have := a5 e
        have := h2.1
        omega
      · exact (us1 arr (a6 e)).1 (g ▸ h2)))
    have c9 : ∀ (y : Nat) (ly : Option Nat) (wy : Mm), va_P D vwC (ctW J y ly wy) H1 → (∀ q, rW y q → Us q ∧ q ≠ arr) → va_P D vwC (ctW J y ly wy) H2 := fun y ly wy hy hr => hy.kept (fun k q hk => by
      have h11 := ctW_at k q hk
      have h12 := hr q.1 ⟨by omega, by omega⟩
      exact kk2 q.1 (hy k q hk).lt (us1 _ h12.1).2.1 h12.2)
    have hcn : (co σ1 9 0).toNatClampNeg = n := by rw [a1]; exact nI_clamp (by omega)
    refine hex H2 locs2 ls _ _ (show cells + (if n = cap then 1 else 0) ≤ 70 by split <;> omega) (show slots + (if n = cap then gcap cap else 0) ≤ 420 by
          split
          · have : gcap cap ≤ 16 := by
              unfold gcap
              split
              · omega
              · split <;> omega
            omega
          · omega) ?_ ?_ hS
    · rw [← hpu]
      refine hP2.w5 (fun k hk => ⟨if_neg (by omega), if_neg (by omega)⟩) ctO_co
    · obtain ⟨d7, d8⟩ := hB2
      have e8 : va_up (if n = cap then va_cpy (lsF n u) (fun _ => none) 0 0 cap else lsF n u) n (some r) = lsF (n + 1) (fun j => if j = n then r else u j) := by
        split
        · rename_i g
          rw [← g, lsF_cpy, lsF_up]
        · rw [lsF_up]
      rw [e8] at d8
      refine ⟨n + 1, if n = cap then gcap cap else cap, if n = cap then H1.size else arr, mc + 1, fun j => if j = n then r else u j, ?_, by omega, ?_, ?_, ?_, ?_, d7, d8, fun i hi => ?_, fun i j hi hj hij => ?_⟩
      · rw [← hpu]
        show (if 9 = 9 ∧ 0 = 0 then co σ1 9 0 + 1 else co σ1 9 0) = _
        rw [if_pos ⟨rfl, rfl⟩, a1, nI_1]
      · have := gcap_gt cap
        split <;> omega
      · split
        · unfold gcap
          split
          · omega
          · split <;> omega
        · exact a4
      · intro g
        split at g
        · have := gcap_gt cap
          omega
        · rw [if_neg (by assumption)]
          exact a5 g
      · intro g
        split
        · rw [eUs]
          exact Or.inr hN1
        · exact a6 (by omega)
      · by_cases e : i = n
        · subst e
          rw [← hpu]
          show va_P D vwC (ctW J (if i = i then r else u i) (if 5 + i = 5 + (co σ1 9 0).toNatClampNeg then cl σ1 0 else cl σ1 (5 + i)) (if 5 + i = 5 + (co σ1 9 0).toNatClampNeg then cw σ1 0 else cw σ1 (5 + i))) H2 ∧ (∀ q, rW (if i = i then r else u i) q → _) ∧ ∀ a, (if 5 + i = 5 + (co σ1 9 0).toNatClampNeg then cl σ1 0 else cl σ1 (5 + i)) = some a → Ld a
          rw [hcn, if_pos rfl, if_pos rfl, if_pos rfl]
          refine ⟨c9 r _ _ hB hXu, fun q hq => ⟨(hXu q hq).1, ?_⟩, fun a ha => hP1.2.2 0 (by decide) a ha⟩
          split
          · have := rW_lt hB hq
            omega
          · exact (hXu q hq).2
        · have hi2 : i < n := by omega
          rw [← hpu]
          show va_P D vwC (ctW J (if i = n then r else u i) (if 5 + i = 5 + (co σ1 9 0).toNatClampNeg then cl σ1 0 else cl σ1 (5 + i)) (if 5 + i = 5 + (co σ1 9 0).toNatClampNeg then cw σ1 0 else cw σ1 (5 + i))) H2 ∧ (∀ q, rW (if i = n then r else u i) q → _) ∧ ∀ a, (if 5 + i = 5 + (co σ1 9 0).toNatClampNeg then cl σ1 0 else cl σ1 (5 + i)) = some a → Ld a
          rw [hcn, if_neg e, if_neg (by omega), if_neg (by omega)]
          refine ⟨c9 _ _ _ (b9 i hi2) (a9 i hi2).2.1, fun q hq => ⟨((a9 i hi2).2.1 q hq).1, ?_⟩, (a9 i hi2).2.2⟩
          split
          · have := rW_lt (b9 i hi2) hq
            omega
          · exact ((a9 i hi2).2.1 q hq).2
      · show (if i = n then r else u i) + 19 < (if j = n then r else u j) ∨ (if j = n then r else u j) + 19 < (if i = n then r else u i)
        by_cases e1 : i = n
        · rw [if_pos e1, if_neg (by omega)]
          have := hXa j (by omega)
          omega
        · by_cases e2 : j = n
          · rw [if_neg e1, if_pos e2]
            exact hXa i (by omega)
          · rw [if_neg e1, if_neg e2]
            exact a10 i j (by omega) (by omega) hij
  have hS0 : va_S (AU o Ur N) s.heap s.heap [] := va_S.rf
  obtain ⟨n, cap, arr, mc, u, hUA⟩ := hU0
  have hUA0 := hUA
  obtain ⟨a1, a2, a3, a4, a5, a6, a7, a8, a9, a10⟩ := hUA
  refine lv_aload_n hx hb dX1_remembers_0 rfl (lv_at hl 0 rfl) ?_
  refine gget hx hb hts in_X1 hown hE.1.1 (hP.o 0 rfl) rfl 8 (by decide) q474 rfl dX1_remembers_1 ?_
  refine rcallI (rest := []) hx hb hts hown hml hl.1 (mJ3_size D J z aK aV (o + 85) (.int mc) (.ref arr) (nI n)) (cwJ3_size_X1 hts ⟨Nat.le_of_ble_eq_true rfl, Nat.le_of_ble_eq_true rfl⟩) EC.keep.and (g_recv hE.1.1 a7 rfl) (fun U hU hW => ⟨hE.1.go hW (envZ _ _ U hS0 hU), by rw [hU]; exact a7⟩) ⟨Nat.zero_le _, Nat.zero_le _⟩ rfl rfl (lv_room (Nat.le_of_ble_eq_true rfl)) dX1_remembers_4 ?_
  refine lv_bipush (v := (12 : Int32)) hx hb dX1_remembers_7 (by decide) ?_
  have hexit : ∀ (H : Heap) (locs : List Loc) (ls : Array Slot) (cells slots : Nat), cells ≤ 70 → slots ≤ 420 → PC D J o Ld σ' H → UP D J o Ld e0 Us σ' H → va_S (AU o Ur N) s.heap H locs → W p l e ({ frames := 20, cells := 70, slots := 420, locals := 1500 } : Room) s m #[Value.ref o] below meth c H locs cells slots _ (F0 m 50 ls []) := fun H locs ls cells slots h1 h2 hP hU hS => W.widen (k := 70) (n := 420) h1 h2 (W.vret hx hb B.returns (Qc := va_Qv (fun (_ : Unit) => True) (fun _ t => PC D J o Ld σ' t.heap ∧ UP D J o Ld e0 (fun q => Ur q ∨ N ≤ q) σ' t.heap) (AU o Ur N)) (free := AU o Ur N) (fun t ht hW => ⟨⟨(), rfl, trivial, by show PC D J o Ld σ' t.heap ∧ UP D J o Ld e0 _ σ' t.heap; rw [ht]; rw [eUs] at hU; exact ⟨hP, hU⟩⟩, hS.F ht⟩) hS.2.2 dX1_remembers_50 B.notSynchronized)
  by_cases c0 : n = 12
  · subst c0
    refine lv_icmp_ne (tgt := 26) hx hb dX1_remembers_9 (by decide) (fun hc => absurd rfl hc) (fun _ => ?_)
    have ha6 := a6 (by omega)
    refine lv_aload_n hx hb dX1_remembers_12 rfl (lv_at hl 0 rfl) ?_
    refine gget hx hb hts in_X1 hown hE.1.1 (hP.o 0 rfl) rfl 8 (by decide) q474 rfl dX1_remembers_13 ?_
    refine lv_iconst (v := (0 : Int32)) hx hb dX1_remembers_16 (by decide) ?_
    have hOA : OAs s s.heap 12 (lsF 12 u) := fun i hi y hy => by
      unfold lsF at hy
      rw [if_pos hi] at hy
      rw [← Option.some.inj hy]
      exact OA.of hE.1.1 ((a9 i hi).1 0 _ rfl) rfl hEU.2.2.2.2
    refine va_callr (va_runV (As := [.int (nI 0)]) (rest := []) ⟨hx, hb, hml, hown, hts⟩ (mJ3_remove l D J z aK aV e0 mi (o + 85) arr cap 12 0 (u 0) mc (lsF 12 u) (by omega) a3 (by omega) (by omega) (us1 arr ha6).2.2 (us1 arr ha6).2.1 rfl) (cwV 1 hts (lw_V q799 q800 q801 q141 q802) rfl rfl rfl (by decide +kernel) ⟨Nat.le_of_ble_eq_true rfl, Nat.le_of_ble_eq_true rfl⟩) ⟨fun _ U g mk q => ⟨q.1, q.2.1, q.2.2.go (State.WarmedH.refl U) (fun _ _ _ => rfl)⟩, g_recv hE.1.1 a7 rfl, fun U hU hW => ⟨rfl, by rw [hU]; exact ⟨a7, a8, hOA.mv hW.alike (fun _ _ _ _ => rfl)⟩, hEQ.go hW (envZ _ _ U hS0 hU)⟩⟩ rfl rfl hl.1 rfl (lv_room (Nat.le_of_ble_eq_true rfl)) dX1_remembers_17 ⟨Nat.le_of_ble_eq_true rfl, Nat.le_of_ble_eq_true rfl⟩) hS0 (fun q _ h => by rcases h with h | h; exact Or.inr (Or.inl h); exact usA q (h ▸ ha6)) (fun q h => by rcases h with h | h; exact Or.inr (Or.inl h); exact usA q (h ▸ ha6)) (fun u9 r t H1 locs1 ht hvm hp hB hz1 hk1 hS => ?_)
    obtain ⟨rfl, hB⟩ := hB
    rw [ht] at hB
    clear hp hvm ht
    clear t
    have c9 : ∀ i, i < 12 → va_P D vwC (ctW J (u i) (cl σ (5 + i)) (cw σ (5 + i))) H1 := fun i hi => (a9 i hi).1.kept (fun k q hk => by
      have h11 := ctW_at k q hk
      have h12 := (a9 i hi).2.1 q.1 ⟨by omega, by omega⟩
      refine hk1 q.1 ((a9 i hi).1 k q hk).lt (fun g => ?_)
      rcases g with g | g
      · exact (us1 _ h12.1).2.1 g
      · exact h12.2 g)
    refine va_castE hx hb hown (hts _ q185) (g_recv hE.1.1 (c9 0 (by omega) 0 _ rfl) rfl) dX1_remembers_20 ?_
    refine lv_goto (tgt := 33) hx hb dX1_remembers_23 (by decide) ?_
    have hP1 : PC D J o Ld σ H1 := hP.kept (fun q h1 h2 => hk1 q h1 (fun g => by
      rcases g with g | g
      · exact h2.2.2 g
      · exact (us1 arr ha6).1 (g ▸ h2)))
    have e12 : co σ 9 0 = 12 := a1
    rw [if_pos e12] at hf
    obtain ⟨d7, d8⟩ := hB
    rw [lsF_sh (by omega)] at d8
    refine tail _ hexit H1 locs1 ls (shU σ) 11 cap arr (u 0) (mc + 1) (fun j => u (j + 1)) (cl σ 5) (cw σ 5) 0 0 (by omega) (by omega) ?_ hS ⟨rfl, by omega, by omega, a4, a5, a6, d7, d8, fun i hi => ?_, fun i j hi hj hij => a10 (i + 1) (j + 1) (by omega) (by omega) (by omega)⟩ (by omega) (c9 0 (by omega)) (fun q hq => (a9 0 (by omega)).2.1 q hq) (fun i hi => a10 (i + 1) 0 (by omega) (by omega) (by omega)) hok hf hl
    · exact hP1.w5 (fun k hk => ⟨if_pos hk, if_pos hk⟩) ctO_co
    · have e5 : cl (shU σ) (5 + i) = cl σ (5 + (i + 1)) := if_neg (by omega)
      have e6 : cw (shU σ) (5 + i) = cw σ (5 + (i + 1)) := if_neg (by omega)
      rw [e5, e6]
      exact ⟨c9 (i + 1) (by omega), (a9 (i + 1) (by omega)).2⟩
  · have hne : ¬ co σ 9 0 = 12 := by
      rw [a1]
      intro g
      exact c0 (nI_inj (j := 12) (by omega) (by omega) g)
    rw [if_neg hne] at hf
    refine lv_icmp_ne (tgt := 26) hx hb dX1_remembers_9 (by decide) (fun _ => ?_) (fun hc => absurd (nI_inj (j := 12) (by omega) (by omega) hc) c0)
    refine gnew (C := RX2) (T := TX2) (N := 29) (ci := 1) (fs := [.int 0, .int 0, .int 0, .int 0, .int 0, .int 0, .int 0, .int 0, .int 0, .null, .null, .null, .null, .null, .null, .null, .null, .null, .null, .null, .null, .null, .null, .null, .null, .null, .null, .null, .null]) (h := N) hx hb hts in_X2 tyX2 tyX2_ok hown q185 q186 q134 hE.1.1 rfl (dvX2) hN (Nat.le_of_ble_eq_true rfl) (Nat.le_of_ble_eq_true rfl) dX1_remembers_26 (fun H h1 h2 h3 => ?_)
    have hS : va_S (AU o Ur N) s.heap H [] := ⟨by omega, fun q g1 g2 => h3 q (by omega), fun l hl => by cases hl⟩
    refine lv_dup hx hb dX1_remembers_29 rfl ?_
    refine va_callv (va_runI (As := []) (rest := [.ref N]) ⟨hx, hb, hml, hown, hts⟩ (mX2_init aK aV e0 l D J z N (by omega)) (cwI 0 hts (lw_meth q189) rfl rfl rfl (hts _ q134) (hts _ q187) (hts _ q188) rfl (by decide +kernel) ⟨Nat.le_of_ble_eq_true rfl, Nat.le_of_ble_eq_true rfl⟩) ⟨fun _ U g mk q => ⟨q.1, q.2.1, q.2.2.1, q.2.2.2.go (State.WarmedH.refl U) (fun _ _ _ => rfl)⟩, fun U hU hW => ⟨rfl, by rw [hU]; exact h2, by rw [hU]; exact h1, hEQ.1.go hW (envZ H [] U hS hU)⟩⟩ rfl rfl hl.1 rfl (lv_room (Nat.le_of_ble_eq_true rfl)) dX1_remembers_30 ⟨Nat.le_of_ble_eq_true rfl, Nat.le_of_ble_eq_true rfl⟩) hS (fun q _ h => Or.inr (Or.inr (Or.inr h))) (fun q h => Or.inr (Or.inr (Or.inr h))) (fun u9 t H1 locs1 ht hvm hp hB hz1 hk1 hS => ?_)
    rw [ht] at hB
    clear hp hvm ht
    clear t
    have kk : ∀ q : Nat, q < s.heap.size → H1[q]? = s.heap[q]? := fun q g => (hk1 q (by omega) (by omega)).trans (h3 q (by omega))
    refine tail _ hexit H1 locs1 ls σ n cap arr N mc u none w0 _ _ (Nat.le_of_ble_eq_true rfl) (Nat.le_of_ble_eq_true rfl) (hP.kept (fun q g _ => kk q g)) hS ⟨a1, a2, a3, a4, a5, a6, a7.kept (kk _ a7.lt), a8.kept (kk _ a8.lt), fun i hi => ⟨(a9 i hi).1.kept (fun k q hk => kk _ ((a9 i hi).1 k q hk).lt), (a9 i hi).2⟩, a10⟩ (by omega) hB.1 (fun q hq => ⟨by rw [eUs]; exact Or.inr hq.1, ?_⟩) (fun i hi => Or.inl ?_) hok hf hl
    · have := a8.lt
      have := hq.1
      omega
    · have := rW_lt (a9 i hi).1 (q := u i + 19) ⟨by omega, Nat.le_refl _⟩
      omega

set_option maxHeartbeats 4000000 in
theorem mX1_undo (Λ : Nat → Nat → (Nat → Int32) → Int32) (Λn : Nat → Int32) (σ : Cs) (v : Int32 × Cs) (hf : X1_undo σ = some v) : CYi yX1_undo cX1_undo 1 (some .boolean) 20 1500 0 0 Λ Λn (fun o aK aF => [.ref o]) (.inl v) σ := by
  refine CYz.of (by decide) (fun _ _ _ => Nat.le_of_ble_eq_true rfl) ?_
  intro p l e s m args below meth c D J o z aK aV G Ld aF e0 mi Ur N Q ls hst hx hb hml hown hts hE hT hEU hret hxx hthr hI hl
  have hl : lv_has ls 1 [(0, .ref o)] := hl
  have hown : s.vm.findClass RX1 = some m.cls := hown
  have hI0 := hI
  obtain ⟨hP, hS0, ⟨n, cap, arr, mc, u, hUA⟩, hUR, hN⟩ := hI
  obtain ⟨a1, a2, a3, a4, a5, a6, a7, a8, a9, a10⟩ := hUA
  have hEQ := hEU.eq hE.1
  have hzo := hUR.2.2.2.1
  have us1 : ∀ q, (Ur q ∨ N ≤ q) → ¬ rC o q ∧ q ≠ o + 85 ∧ z ≤ q := by
    intro q h
    refine ⟨hUR.us q (Or.inr (Or.inl h)), fun g => ?_, hUR.za q (Or.inr (Or.inr h))⟩
    rcases h with h | h
    · exact (hUR.1 q h).2.2 g
    · have := hUR.2.2.1
      omega
  have envZ : ∀ (H : Heap) (locs : List Loc) (U : State), va_S (AU o Ur N) s.heap H locs → U.heap = H → ∀ q : Nat, q < s.heap.size → ¬ z ≤ q → U.heap[q]? = s.heap[q]? := fun H locs U hS hU q h1 h2 => by rw [hU]; exact hS.2.1 q h1 (fun g => h2 (hUR.za q g))
  unfold X1_undo at hf
  refine lv_aload_n hx hb dX1_undo_0 rfl (lv_at hl 0 rfl) ?_
  refine gget hx hb hts in_X1 hown hE.1.1 (hP.o 0 rfl) rfl 8 (by decide) q474 rfl dX1_undo_1 ?_
  refine rcallI (rest := []) hx hb hts hown hml hl.1 (mJ3_isEmpty D J z aK aV (o + 85) (.int mc) (.ref arr) n (by omega)) (cwJ3_isEmpty_X1 hts ⟨Nat.le_of_ble_eq_true rfl, Nat.le_of_ble_eq_true rfl⟩) EC.keep.and (g_recv hE.1.1 a7 rfl) (fun U hU hW => ⟨hE.1.go hW (envZ _ _ U hS0 hU), by rw [hU]; exact a7⟩) ⟨Nat.zero_le _, Nat.zero_le _⟩ rfl rfl (lv_room (Nat.le_of_ble_eq_true rfl)) dX1_undo_4 ?_
  by_cases c0 : n = 0
  · subst c0
    rw [if_pos rfl]
    have e1 : co σ 9 0 = 0 := a1
    rw [if_pos e1] at hf
    refine lv_if_eq (tgt := 12) hx hb dX1_undo_7 (by decide) (fun hc => absurd hc (by decide)) (fun _ => ?_)
    refine lv_iconst (v := (0 : Int32)) hx hb dX1_undo_10 (by decide) ?_
    exact hret _ _ 11 ls 0 σ hI0 (congrArg Sum.inl (Option.some.inj hf).symm) (Or.inl rfl) dX1_undo_11
  · rw [if_neg c0]
    have e1 : ¬ co σ 9 0 = 0 := by
      rw [a1]
      exact fun g => c0 (nI_inj (j := 0) (by omega) (by omega) g)
    rw [if_neg e1] at hf
    obtain ⟨t, et, hf⟩ := obd hf
    have hv := (Option.some.inj hf).symm
    have hsub : co σ 9 0 - 1 = nI (n - 1) := by
      rw [a1]
      exact pk_sub (b := 1) (by omega)
    rw [hsub, nI_clamp (by omega)] at et
    refine lv_if_eq (tgt := 12) hx hb dX1_undo_7 (by decide) (fun _ => ?_) (fun hc => absurd rfl hc)
    have ha6 := a6 (by omega)
    refine lv_aload_n hx hb dX1_undo_12 rfl (lv_at hl 0 rfl) ?_
    refine gget hx hb hts in_X1 hown hE.1.1 (hP.o 0 rfl) rfl 0 (by decide) q463 rfl dX1_undo_13 ?_
    refine lv_aload_n hx hb dX1_undo_16 rfl (lv_at hl 0 rfl) ?_
    refine gget hx hb hts in_X1 hown hE.1.1 (hP.o 0 rfl) rfl 8 (by decide) q474 rfl dX1_undo_17 ?_
    refine lv_aload_n hx hb dX1_undo_20 rfl (lv_at hl 0 rfl) ?_
    refine gget hx hb hts in_X1 hown hE.1.1 (hP.o 0 rfl) rfl 8 (by decide) q474 rfl dX1_undo_21 ?_
    refine rcallI (rest := [.ref (o + 85), .ref (wA o 0)]) hx hb hts hown hml hl.1 (mJ3_size D J z aK aV (o + 85) (.int mc) (.ref arr) (nI n)) (cwJ3_size_X1 hts ⟨Nat.le_of_ble_eq_true rfl, Nat.le_of_ble_eq_true rfl⟩) EC.keep.and (g_recv hE.1.1 a7 rfl) (fun U hU hW => ⟨hE.1.go hW (envZ _ _ U hS0 hU), by rw [hU]; exact a7⟩) ⟨Nat.zero_le _, Nat.zero_le _⟩ rfl rfl (lv_room (Nat.le_of_ble_eq_true rfl)) dX1_undo_24 ?_
    refine lv_iconst (v := (1 : Int32)) hx hb dX1_undo_27 (by decide) ?_
    refine lv_isub hx hb dX1_undo_28 ?_
    rw [show nI n - 1 = nI (n - 1) from pk_sub (b := 1) (by omega)]
    have hOA : OAs s s.heap n (lsF n u) := fun i hi y hy => by
      unfold lsF at hy
      rw [if_pos hi] at hy
      rw [← Option.some.inj hy]
      exact OA.of hE.1.1 ((a9 i hi).1 0 _ rfl) rfl hEU.2.2.2.2
    refine va_callr (va_runV (As := [.int (nI (n - 1))]) (rest := [.ref (wA o 0)]) ⟨hx, hb, hml, hown, hts⟩ (mJ3_remove l D J z aK aV e0 mi (o + 85) arr cap n (n - 1) (u (n - 1)) mc (lsF n u) (by omega) a3 (by omega) (by omega) (us1 arr ha6).2.2 (us1 arr ha6).2.1 (if_pos (by omega))) (cwV 1 hts (lw_V q799 q800 q801 q141 q802) rfl rfl rfl (by decide +kernel) ⟨Nat.le_of_ble_eq_true rfl, Nat.le_of_ble_eq_true rfl⟩) ⟨fun _ U g mk q => ⟨q.1, q.2.1, q.2.2.go (State.WarmedH.refl U) (fun _ _ _ => rfl)⟩, g_recv hE.1.1 a7 rfl, fun U hU hW => ⟨rfl, by rw [hU]; exact ⟨a7, a8, hOA.mv hW.alike (fun _ _ _ _ => rfl)⟩, hEQ.go hW (envZ _ _ U hS0 hU)⟩⟩ rfl rfl hl.1 rfl (lv_room (Nat.le_of_ble_eq_true rfl)) dX1_undo_29 ⟨Nat.le_of_ble_eq_true rfl, Nat.le_of_ble_eq_true rfl⟩) hS0 (fun q _ h => by rcases h with h | h; exact Or.inr (Or.inl h); exact Or.inr (Or.inr (h ▸ ha6))) (fun q h => by rcases h with h | h; exact Or.inr (Or.inl h); exact Or.inr (Or.inr (h ▸ ha6))) (fun u9 r t9 H1 locs1 ht hvm hp hB hz1 hk1 hS => ?_)
    obtain ⟨rfl, hB⟩ := hB
    rw [ht] at hB
    clear hp hvm ht
    clear t9
    have c9 : ∀ i, i < n → va_P D vwC (ctW J (u i) (cl σ (5 + i)) (cw σ (5 + i))) H1 := fun i hi => (a9 i hi).1.kept (fun k q hk => by
      have h11 := ctW_at k q hk
      have h12 := (a9 i hi).2.1 q.1 ⟨by omega, by omega⟩
      refine hk1 q.1 ((a9 i hi).1 k q hk).lt (fun g => ?_)
      rcases g with g | g
      · exact (us1 _ h12.1).2.1 g
      · exact h12.2 g)
    have hn1 : n - 1 < n := by omega
    refine va_castE hx hb hown (hts _ q185) (g_recv hE.1.1 (c9 (n - 1) hn1 0 _ rfl) rfl) dX1_undo_32 ?_
    have hP1 : PC D J o Ld σ H1 := hP.kept (fun q h1 h2 => hk1 q h1 (fun g => by
      rcases g with g | g
      · exact h2.2.2 g
      · exact (us1 arr ha6).1 (g ▸ h2)))
    obtain ⟨d7, d8⟩ := hB
    rw [lsF_dr (by omega)] at d8
    have hI1 : IU D J o Ld z G e0 Ur N s H1 locs1 (nuU σ (nI (n - 1))) := ⟨hP1.w5 (fun k hk => ⟨rfl, rfl⟩) ctO_co, hS, ⟨n - 1, cap, arr, mc + 1, u, rfl, by omega, by omega, a4, a5, a6, d7, d8, fun i hi => ⟨c9 i (by omega), (a9 i (by omega)).2⟩, fun i j hi hj hij => a10 i j (by omega) (by omega) hij⟩, hUR, hN⟩
    unfold clk at et
    have hok : okZ 6 (cw σ (5 + (n - 1)) 14) = true ∧ okZ 8 (cw σ (5 + (n - 1)) 15) = true := by
      by_cases h : okZ 6 (cw σ (5 + (n - 1)) 14) = true ∧ okZ 8 (cw σ (5 + (n - 1)) 15) = true
      · exact h
      · have e2 := ineg h et; cases e2
    replace et := ipos hok et
    have et := (Option.some.inj et).symm
    have hXu := (a9 (n - 1) hn1).2.1
    have hd : wA o 0 + 19 < u (n - 1) ∨ u (n - 1) + 19 < wA o 0 := by
      rcases Nat.lt_or_ge (u (n - 1) + 19) (wA o 0) with g | g
      · exact Or.inr g
      rcases Nat.lt_or_ge (wA o 0 + 19) (u (n - 1)) with g2 | g2
      · exact Or.inl g2
      exfalso
      have hxw : ∀ q, rC o q → ¬ rW (u (n - 1)) q := fun q h1 h2 => (us1 q (hXu q h2).1).1 h1
      rcases Nat.lt_or_ge (u (n - 1)) (wA o 0) with g3 | g3
      · exact hxw (wA o 0) (rW_rC (k := 0) (by decide) _ ⟨Nat.le_refl _, Nat.le_add_right _ _⟩) ⟨Nat.le_of_lt g3, g⟩
      · exact hxw (u (n - 1)) (rW_rC (k := 0) (by decide) _ ⟨g3, g2⟩) ⟨Nat.le_refl _, Nat.le_add_right _ _⟩
    refine va_callr (va_runV (As := [.ref (u (n - 1))]) (rest := []) ⟨hx, hb, hml, hown, hts⟩ (mX2_likens l D J z aK aV (wA o 0) (u (n - 1)) (cl σ 0) (cl σ (5 + (n - 1))) (cw σ 0) (cw σ (5 + (n - 1))) (Nat.le_trans hzo (Nat.le_add_right _ _)) hd hok.1 hok.2) (cwX2_likens_X1 hts ⟨Nat.le_of_ble_eq_true rfl, Nat.le_of_ble_eq_true rfl⟩) ⟨fun a U g mk q => ⟨q.1, q.2.1, q.2.2.go (State.WarmedH.refl U) (fun _ _ _ => rfl)⟩, g_recv hE.1.1 (hP1.w 0 (by decide) 0 rfl) rfl, fun U hU hW => ⟨rfl, by rw [hU]; exact ⟨hP1.1 0 (by decide), c9 (n - 1) hn1⟩, hE.1.go hW (envZ H1 locs1 U hS hU)⟩⟩ rfl rfl hl.1 rfl (lv_room (Nat.le_of_ble_eq_true rfl)) dX1_undo_35 ⟨Nat.le_of_ble_eq_true rfl, Nat.le_of_ble_eq_true rfl⟩) hS (fun q _ h => Or.inl (rW_rC (by decide) q h)) (fun q h => Or.inl (rW_rC (by decide) q h)) (fun u8 r2 t9 H2 locs2 ht hvm hp hB hz1 hk2 hS => ?_)
    obtain ⟨rfl, hB⟩ := hB
    rw [ht] at hB
    clear hp hvm ht
    clear t9
    refine lv_pop hx hb dX1_undo_38 rfl ?_
    refine lv_iconst (v := (1 : Int32)) hx hb dX1_undo_39 (by decide) ?_
    have hI2 : IU D J o Ld z G e0 Ur N s H2 locs2 t := by
      rw [et]
      refine hI1.by (hI1.1.setW (k := 0) (by decide) ?_ hk2 (fun q hq => ⟨if_neg hq, if_neg hq⟩) ⟨rfl, rfl⟩ (fun a ha => (a9 (n - 1) hn1).2.2 a ?_)) (uSame_l (by decide)) (fun q h1 h2 => hk2 q h1 (fun h => h2 (rW_rC (by decide) q h))) hS
      · exact hB
      · exact ha
    exact hret _ _ 40 ls 1 t hI2 (congrArg Sum.inl hv) (Or.inr rfl) dX1_undo_40
