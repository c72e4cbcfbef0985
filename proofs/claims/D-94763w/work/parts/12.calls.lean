/-! CONTRACTS over the layer: of static methods that touch no world, of a class's methods over their class's world; how a call uses them -/
abbrev rmH (h : Nat) : Room := { frames := h + 1, cells := 0, slots := 0, locals := 60 * (h + 1) }
def CtW (l : Launch) (G : AG) (y : MethodName) (bytes : ByteArray) (maxL : Nat) (ret : Option FieldType) (rm : Room) (av : List Value) (w : St → va_W) (σ : St) (Post : Option Value → St → Prop) : Prop :=
  ∀ sz : Nat, Met l y (ws_ y bytes maxL ret) rm (va_Pc av (fun U => U.heap.size = sz ∧ va_P G.1 vwCl (w σ) U.heap ∧ va_K G.1 vwCl (tyG G) U ∧ va_D (fun _ => True) (w σ)))
    (fun _ st o t => (∃ (r : Option Value) (σ' : St), o = .returned r ∧ Post r σ' ∧ va_P G.1 vwCl (w σ') t.heap ∧ va_D (va_A (w σ) sz) (w σ')) ∧ va_F (va_A (w σ) sz) st t) rm.cells rm.slots (va_A (w σ) sz)
abbrev pI (P : Int32 → St → Prop) : Option Value → St → Prop := fun r σ => ∃ v : Int32, r = some (.int v) ∧ P v σ
abbrev pL (P : Int64 → St → Prop) : Option Value → St → Prop := fun r σ => ∃ v : Int64, r = some (.long v) ∧ P v σ
abbrev pV (P : St → Prop) : Option Value → St → Prop := fun r σ => r = none ∧ P σ
abbrev pA (P : Value → St → Prop) : Option Value → St → Prop := fun r σ => ∃ v : Value, r = some v ∧ P v σ
/-- the ends of a run -/
def AEi (Z : AZ) (cc : ByteArray) (ty : FieldType) (w : St → va_W) (k n : Nat) (P : Int32 → St → Prop) : Prop := ∀ (pc : Nat) (lv : List (Nat × Value)) (v : Int32) (σ : St), decode cc pc = .ok (.ireturn, 1) → narrow ty (.int v) = .int v → P v σ → AX Z k n pc lv [.int v] (w σ)
def AEl (Z : AZ) (cc : ByteArray) (w : St → va_W) (k n : Nat) (P : Int64 → St → Prop) : Prop := ∀ (pc : Nat) (lv : List (Nat × Value)) (v : Int64) (σ : St), decode cc pc = .ok (.lreturn, 1) → P v σ → AX Z k n pc lv [.long v] (w σ)
def AEv (Z : AZ) (cc : ByteArray) (w : St → va_W) (k n : Nat) (P : St → Prop) : Prop := ∀ (pc : Nat) (lv : List (Nat × Value)) (σ : St), decode cc pc = .ok (.return_, 1) → P σ → AX Z k n pc lv [] (w σ)
def AEa (Z : AZ) (cc : ByteArray) (w : St → va_W) (k n : Nat) (P : Value → St → Prop) : Prop := ∀ (pc : Nat) (lv : List (Nat × Value)) (v : Value) (σ : St), decode cc pc = .ok (.areturn, 1) → (v = .null ∨ ∃ a, v = .ref a) → P v σ → AX Z k n pc lv [v] (w σ)
def AZl (Z : AZ) : Launch := Z.1.2.1
set_option maxHeartbeats 1000000 in
theorem CtW.of0 {l : Launch} {G : AG} {y : MethodName} {bytes : ByteArray} {maxL : Nat} {ret : Option FieldType} {rm : Room} {av : List Value} {w : St → va_W} {σ : St} {Post : Option Value → St → Prop}
    (hy : plainName y.cls = true) (hlen : (lg_sl av).length ≤ maxL)
    (body : ∀ Z : AZ, AZl Z = l → AK Z G bytes y.cls maxL rm →
      (∀ ty, ret = some ty → ∀ P, (∀ v σ', P v σ' → Post (some (.int v)) σ') → AEi Z bytes ty w rm.cells rm.slots P) →
      (ret = some .long → ∀ P, (∀ v σ', P v σ' → Post (some (.long v)) σ') → AEl Z bytes w rm.cells rm.slots P) →
      (ret = none → ∀ P, (∀ σ', P σ' → Post none σ') → AEv Z bytes w rm.cells rm.slots P) →
      (∀ ty, ret = some ty → ((∃ n, ty = .object n) ∨ ∃ t, ty = .array t) → ∀ P, (∀ v σ', P v σ' → Post (some v) σ') → AEa Z bytes w rm.cells rm.slots P) →
      AX Z 0 0 0 (lv_args 0 av) [] (w σ)) : CtW l G y bytes maxL ret rm av w σ Post := by
  intro sz
  refine Met.ofW (cc := bytes) (maxL := maxL) (ret := ret) hy rfl ?_
  intro p e s m args below meth c s₁ B hml hv
  obtain ⟨rfl, hsz, hP, hK, hD0⟩ := hv
  have hx := B.exec
  have hb := B.bytes
  have hr := B.returns
  have hts := atoms_spec (ws := ws_ y bytes maxL ret) B.pre
  have hts : ∀ w ∈ lw_all, w.before _ s = true := fun w h => hts w (List.mem_cons_of_mem _ h)
  have hown : s.vm.findClass y.cls = some m.cls := findClass_of_methodNamed B.named
  have hlocks := B.notSynchronized
  subst hsz
  have hD := hD0.self (sz := s.heap.size)
  have hA : ∀ q : Nat, s.heap.size ≤ q → va_A (w σ) s.heap.size q := fun q h => Or.inr h
  have hS : va_S (va_A (w σ) s.heap.size) s.heap s.heap [] := va_S.rf
  have hl := lv_entry av (n := maxL) hlen
  rw [lg_entry_eq]
  generalize (lg_sl av ++ List.replicate (maxL - (lg_sl av).length) Slot.unset).toArray = ls at hl ⊢
  have main := body ((p, l, e, (headSpec (ws_ y bytes maxL ret) rm).room, s), (m, av.toArray, below, meth, c), (maxL, G.1, vwCl, tyG G, va_A (w σ) s.heap.size), MQ below (fun _ st o t => (∃ (r : Option Value) (σ' : St), o = .returned r ∧ Post r σ' ∧ va_P G.1 vwCl (w σ') t.heap ∧ va_D (va_A (w σ) s.heap.size) (w σ')) ∧ va_F (va_A (w σ) s.heap.size) st t) av.toArray s rm.cells rm.slots (va_A (w σ) s.heap.size)) rfl
    ⟨hx, hb, hml, hown, hts, hK, hA, rfl, rfl, rfl, rfl, rfl, hlocks⟩ ?_ ?_ ?_ ?_
  · exact main s.heap [] ls hP hD hS hl
  · intro ty hty P hPost pc lv v σ' d hn hp H locs ls hP hD hS hl
    subst hty
    exact W.zret hx hb hr hn (fun t ht hW => ⟨⟨_, σ', rfl, hPost v σ' hp, by rw [ht]; exact hP, hD⟩, hS.F ht⟩) hS.2.2 d
  · intro hty P hPost pc lv v σ' d hp H locs ls hP hD hS hl
    subst hty
    exact W.lret hx hb hr (fun t ht hW => ⟨⟨_, σ', rfl, hPost v σ' hp, by rw [ht]; exact hP, hD⟩, hS.F ht⟩) hS.2.2 d
  · intro hty P hPost pc lv σ' d hp H locs ls hP hD hS hl
    subst hty
    exact W.vret hx hb hr (fun t ht hW => ⟨⟨_, σ', rfl, hPost σ' hp, by rw [ht]; exact hP, hD⟩, hS.F ht⟩) hS.2.2 d
  · intro ty hty hrt P hPost pc lv v σ' d hv hp H locs ls hP hD hS hl
    subst hty
    exact W.aret hx hb hr hrt hv (fun t ht hW => ⟨⟨_, σ', rfl, hPost v σ' hp, by rw [ht]; exact hP, hD⟩, hS.F ht⟩) hS.2.2 d
theorem CtW.ofI {l : Launch} {G : AG} {y : MethodName} {bytes : ByteArray} {maxL : Nat} {ty : FieldType} {rm : Room} {av : List Value} {w : St → va_W} {σ : St} {P : Int32 → St → Prop}
    (hy : plainName y.cls = true) (hlen : (lg_sl av).length ≤ maxL) (body : ∀ Z : AZ, AZl Z = l → AK Z G bytes y.cls maxL rm → AEi Z bytes ty w rm.cells rm.slots P → AX Z 0 0 0 (lv_args 0 av) [] (w σ)) : CtW l G y bytes maxL (some ty) rm av w σ (pI P) :=
  CtW.of0 hy hlen fun Z hl K h1 _ _ _ => body Z hl K (h1 ty rfl P fun v _ h => ⟨v, rfl, h⟩)
theorem CtW.ofL {l : Launch} {G : AG} {y : MethodName} {bytes : ByteArray} {maxL : Nat} {rm : Room} {av : List Value} {w : St → va_W} {σ : St} {P : Int64 → St → Prop}
    (hy : plainName y.cls = true) (hlen : (lg_sl av).length ≤ maxL) (body : ∀ Z : AZ, AZl Z = l → AK Z G bytes y.cls maxL rm → AEl Z bytes w rm.cells rm.slots P → AX Z 0 0 0 (lv_args 0 av) [] (w σ)) : CtW l G y bytes maxL (some .long) rm av w σ (pL P) :=
  CtW.of0 hy hlen fun Z hl K _ h1 _ _ => body Z hl K (h1 rfl P fun v _ h => ⟨v, rfl, h⟩)
theorem CtW.ofV {l : Launch} {G : AG} {y : MethodName} {bytes : ByteArray} {maxL : Nat} {rm : Room} {av : List Value} {w : St → va_W} {σ : St} {P : St → Prop}
    (hy : plainName y.cls = true) (hlen : (lg_sl av).length ≤ maxL) (body : ∀ Z : AZ, AZl Z = l → AK Z G bytes y.cls maxL rm → AEv Z bytes w rm.cells rm.slots P → AX Z 0 0 0 (lv_args 0 av) [] (w σ)) : CtW l G y bytes maxL none rm av w σ (pV P) :=
  CtW.of0 hy hlen fun Z hl K _ _ h1 _ => body Z hl K (h1 rfl P fun _ h => ⟨rfl, h⟩)
theorem CtW.ofA {l : Launch} {G : AG} {y : MethodName} {bytes : ByteArray} {maxL : Nat} {C : String} {rm : Room} {av : List Value} {w : St → va_W} {σ : St} {P : Value → St → Prop}
    (hy : plainName y.cls = true) (hlen : (lg_sl av).length ≤ maxL) (body : ∀ Z : AZ, AZl Z = l → AK Z G bytes y.cls maxL rm → AEa Z bytes w rm.cells rm.slots P → AX Z 0 0 0 (lv_args 0 av) [] (w σ)) : CtW l G y bytes maxL (some (.object C)) rm av w σ (pA P) :=
  CtW.of0 hy hlen fun Z hl K _ _ _ h1 => body Z hl K (h1 _ rfl (Or.inl ⟨C, rfl⟩) P fun v _ h => ⟨v, rfl, h⟩)
/-- the world of a method that touches none -/
abbrev w0 : St → va_W := fun _ => []
/-- behind a call -/
theorem w_call {p : Program} {l : Launch} {e : Env} {R : Room} {s : State} {m : MethodId} {args : Array Value} {below : List Frame} {meth : Method} {c : Code} {H : Heap} {locs : List Loc} {cells slots mc ms : Nat} {Q : State → Prop} {pc : Nat} {ls : Array Slot} {rest st0 : List Value} {A0 A1 : Nat → Prop} {H0 : Heap} {free : Addr → Prop} {D : va_G} {cl : List vw_C} {w : St → va_W} {Post : Option Value → St → Prop}
    (hr : va_Run p l e R s m args below meth c H locs cells slots mc ms (F0 m pc ls st0) rest (fun st o t => (∃ (r : Option Value) (σ' : St), o = .returned r ∧ Post r σ' ∧ va_P D cl (w σ') t.heap ∧ va_D A1 (w σ')) ∧ va_F A1 st t) free) (hS : va_S A0 H0 H locs) (hA : ∀ q, q < H.size → A1 q → A0 q) (hf : ∀ q, free q → A0 q)
    (kk : ∀ (r : Option Value) (σ' : St) (H1 : Heap) (locs1 : List Loc), Post r σ' → va_P D cl (w σ') H1 → va_D A1 (w σ') → H.size ≤ H1.size → (∀ q : Nat, q < H.size → ¬ A1 q → H1[q]? = H[q]?) → va_S A0 H0 H1 locs1 → W p l e R s m args below meth c H1 locs1 (cells + mc) (slots + ms) Q (F0 m (pc + 3) ls (r.toList ++ rest))) : W p l e R s m args below meth c H locs cells slots Q (F0 m pc ls st0) := by
  intro T hT X
  obtain ⟨v, st₀, t, T', L, h0, X', hL, e1, e2, ⟨⟨r, u, hv, hp, hb, hd⟩, hz, hk⟩, st⟩ := hr T hT X
  cases hv
  rw [h0] at hz hk
  obtain ⟨t2, a1, b1⟩ := kk v u T'.heap (locs ++ L) hp (by rw [e1]; exact hb) hd (by rw [e1]; exact hz) (fun q h1 h2 => by rw [e1]; exact hk q h1 h2)
    ⟨Nat.le_trans hS.1 (by rw [e1]; exact hz), fun q h1 h2 => by rw [e1, hk q (Nat.lt_of_lt_of_le h1 hS.1) (fun z => h2 (hA q (Nat.lt_of_lt_of_le h1 hS.1) z))]; exact hS.2.1 q h1 h2, fun q hq => by
      rcases List.mem_append.mp hq with h | h
      · exact hS.2.2 q h
      · exact hf _ (hL q h)⟩ T' rfl X'
  exact ⟨t2, st t2 a1, b1⟩
theorem va_A_sub {A0 : Nat → Prop} {ws : va_W} {H0 H : Heap} {locs : List Loc} (hD : va_D A0 ws) (hS : va_S A0 H0 H locs) (hA : ∀ q, H0.size ≤ q → A0 q) : ∀ q, va_A ws H.size q → A0 q := by
  intro q h
  rcases h with ⟨k, e, h⟩ | h
  · exact hD.2 k (q, e) h
  · exact hA q (Nat.le_trans hS.1 h)
/-- a call of a method of the world's object: its whole world goes in and comes back -/
theorem ax_callV {Z : AZ} {G : AG} {cc : ByteArray} {own : String} {mL : Nat} {rm0 : Room} {k n pc : Nat} {lv : List (Nat × Value)} {rest : List Value} (K : AK Z G cc own mL rm0) {y : MethodName} {bytes : ByteArray} {maxL index ci N a N0 : Nat} {ret : Option FieldType} {rm : Room} {C : String} {T : u_T} {fs : List Value} {w : St → va_W} {σ : St} {As st : List Value} {Post : Option Value → St → Prop}
    (hM : CtW (AZl Z) G y bytes maxL ret rm (.ref a :: As) w σ Post) (h1 : Cond.methodLink own index y ∈ lw_all) (h2 : Cond.instanceMethod y ∈ lw_all) (h3 : Cond.selects C y y ∈ lw_all) (h4 : Cond.initialized C ∈ lw_all) (h5 : Cond.code y bytes maxL ret ∈ lw_all)
    (hy : y.cls = C ∧ y.cls ≠ "java/lang/invoke/MethodHandle" ∧ y.cls ≠ "java/lang/invoke/VarHandle" ∧ (parseMethodDescriptor y.desc).map (fun d => d.parameters.length) = some N0) (hn : As.length = N0) (hR : rm.frames + 1 ≤ rm0.frames ∧ 8 + (maxL + 11) + rm.locals ≤ rm0.locals) (hk : k + rm.cells ≤ rm0.cells ∧ n + rm.slots ≤ rm0.slots)
    (he : (w σ)[0]? = some (a, .inr (ci, fs))) (hc : vwCl[ci]? = some (C, T, N)) (hst : st = As.reverse ++ .ref a :: rest) (hrest : (rest.map fun v => v.category).sum ≤ 8) (d : decode cc pc = .ok (.invokevirtual index, 3))
    (kk : ∀ (r : Option Value) (σ' : St), Post r σ' → AX Z (k + rm.cells) (n + rm.slots) (pc + 3) lv (r.toList ++ rest) (w σ')) : AX Z k n pc lv st (w σ) := by
  obtain ⟨⟨p, l, e, R, s⟩, ⟨m, args, below, meth, c⟩, ⟨nL, D, cl, tys, A⟩, Q⟩ := Z
  obtain ⟨hx, hb, hml, hown, hts, hK, hA, hnL, hR0, hD0, hcl, hty, hlk⟩ := K
  subst hD0; subst hcl; subst hty; subst hst; subst hR0
  intro H locs ls hP hD hS hl
  have hF := va_A_sub hD hS hA
  refine w_call (w := w) (Post := Post) (A1 := va_A (w σ) H.size) (free := va_A (w σ) H.size) (va_runV (As := As) (rest := rest) ⟨hx, hb, hml, hown, hts⟩ (hM H.size) (cwV N0 hts (lw_V h1 h2 h3 h4 h5) rfl rfl rfl hy hR) ⟨fun a U g mk q => by obtain ⟨q0, q1, qP, qK, qD⟩ := q; exact ⟨q0, q1, qP, va_K.moved (u := U) (U := U.calling g mk a) (Vm.Alike.refl U.vm) qK, qD⟩, va_recv hK hP hc he, fun U hU hW => ⟨rfl, by rw [hU], by rw [hU]; exact hP, va_K.moved hW.alike hK, hD.weaken (fun _ _ _ _ => trivial)⟩⟩ rfl hn hl.1 rfl (lv_room hrest) d hk) hS (fun q _ h => hF q h) hF (fun r σ' H1 locs1 hp hP1 hD1 _ _ hS1 => ?_)
  exact kk r σ' hp H1 locs1 ls hP1 (hD1.weaken (fun _ q _ h => hF q.1 h)) hS1 hl
/-- a static method's call, one that touches no world: the caller's stays -/
theorem ax_callS {Z : AZ} {G : AG} {cc : ByteArray} {own : String} {mL : Nat} {rm0 : Room} {k n pc : Nat} {lv : List (Nat × Value)} {rest : List Value} (K : AK Z G cc own mL rm0) {y : MethodName} {bytes : ByteArray} {maxL index N0 : Nat} {ret : Option FieldType} {rm : Room} {σ : St} {As st : List Value} {ws : va_W} {Post : Option Value → St → Prop}
    (hM : CtW (AZl Z) G y bytes maxL ret rm As w0 σ Post) (h1 : Cond.methodLink own index y ∈ lw_all) (h2 : Cond.static y ∈ lw_all) (h4 : Cond.initialized y.cls ∈ lw_all) (h5 : Cond.code y bytes maxL ret ∈ lw_all)
    (hy : y.cls ≠ "java/lang/invoke/MethodHandle" ∧ y.cls ≠ "java/lang/invoke/VarHandle" ∧ (parseMethodDescriptor y.desc).map (fun d => d.parameters.length) = some N0) (hn : As.length = N0) (hR : rm.frames + 1 ≤ rm0.frames ∧ 8 + (maxL + 11) + rm.locals ≤ rm0.locals) (hk : k + rm.cells ≤ rm0.cells ∧ n + rm.slots ≤ rm0.slots)
    (hst : st = As.reverse ++ rest) (hrest : (rest.map fun v => v.category).sum ≤ 8) (d : decode cc pc = .ok (.invokestatic index, 3))
    (kk : ∀ (r : Option Value) (σ' : St), Post r σ' → AX Z (k + rm.cells) (n + rm.slots) (pc + 3) lv (r.toList ++ rest) ws) : AX Z k n pc lv st ws := by
  obtain ⟨⟨p, l, e, R, s⟩, ⟨m, args, below, meth, c⟩, ⟨nL, D, cl, tys, A⟩, Q⟩ := Z
  obtain ⟨hx, hb, hml, hown, hts, hK, hA, hnL, hR0, hD0, hcl, hty, hlk⟩ := K
  subst hD0; subst hcl; subst hty; subst hst; subst hR0
  intro H locs ls hP hD hS hl
  have hnil : ∀ (B : Nat → Prop), va_D B ([] : va_W) := fun B => ⟨fun i j x y h => by simp at h, fun k q h => by simp at h⟩
  have hnot : ∀ q : Nat, q < H.size → ¬ va_A ([] : va_W) H.size q := fun q hq h => by
    rcases h with ⟨k, e, h⟩ | h
    · simp at h
    · omega
  have hF : ∀ q, va_A ([] : va_W) H.size q → A q := va_A_sub (hnil A) hS hA
  refine w_call (w := w0) (Post := Post) (A1 := va_A [] H.size) (free := va_A [] H.size) (va_runS (As := As) (rest := rest) ⟨hx, hb, hml, hown, hts⟩ (hM H.size) (va_cwS N0 hts (lw_S h1 h2 h4 h5) rfl rfl rfl hy hR) ⟨fun a U g mk q => by obtain ⟨q0, q1, qP, qK, qD⟩ := q; exact ⟨q0, q1, qP, va_K.moved (u := U) (U := U.calling g mk a) (Vm.Alike.refl U.vm) qK, qD⟩, fun U hU hW => ⟨rfl, by rw [hU], (fun k q h => by simp at h), va_K.moved hW.alike hK, hnil _⟩⟩ rfl hn hl.1 rfl (lv_room hrest) d hk) hS (fun q _ h => hF q h) hF (fun r σ' H1 locs1 hp _ _ _ hk1 hS1 => ?_)
  exact kk r σ' hp H1 locs1 ls (hP.kept fun k q hq => hk1 q.1 (hP k q hq).lt (hnot q.1 (hP k q hq).lt)) hD hS1 hl
