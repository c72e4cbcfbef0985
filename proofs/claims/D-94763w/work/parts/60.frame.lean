/-! MACHINE, by hand: contracts whose end is any picture; constructors' rows; calls within a greater world -/
theorem va_D_iff {A : Nat → Prop} {ws : va_W} : va_D A ws ↔ (ws.map fun q => q.1).Nodup ∧ ∀ q ∈ ws, A q.1 := by
  constructor
  · intro h
    refine ⟨List.pairwise_iff_getElem.mpr ?_, fun q hq => ?_⟩
    · intro i j hi hj hij e
      rw [List.length_map] at hi hj
      rw [List.getElem_map, List.getElem_map] at e
      have := h.1 i j _ _ (List.getElem?_eq_getElem hi) (List.getElem?_eq_getElem hj) e
      omega
    · obtain ⟨k, hk, e⟩ := List.getElem_of_mem hq
      exact h.2 k q (by rw [List.getElem?_eq_getElem hk, e])
  · intro h
    refine ⟨fun i j p q hi hj e => ?_, fun k q hk => h.2 q (List.mem_of_getElem? hk)⟩
    have h1 := List.pairwise_iff_getElem.mp h.1
    obtain ⟨li, ei⟩ := List.getElem?_eq_some_iff.mp hi
    obtain ⟨lj, ej⟩ := List.getElem?_eq_some_iff.mp hj
    rcases Nat.lt_trichotomy i j with q1 | q1 | q1
    · exact absurd (by rw [List.getElem_map, List.getElem_map, ei, ej]; exact e) (h1 i j (by rw [List.length_map]; exact li) (by rw [List.length_map]; exact lj) q1)
    · exact q1
    · exact absurd (by rw [List.getElem_map, List.getElem_map, ei, ej]; exact e.symm) (h1 j i (by rw [List.length_map]; exact lj) (by rw [List.length_map]; exact li) q1)
theorem va_P_iff {D : va_G} {cl : List vw_C} {ws : va_W} {H : Heap} : va_P D cl ws H ↔ ∀ q ∈ ws, va_at D cl q H :=
  ⟨fun h q hq => by
    obtain ⟨k, hk⟩ := List.getElem?_of_mem hq
    exact h k q hk, fun h k q hk => h q (List.mem_of_getElem? hk)⟩
/-- a callee's world within the caller's -/
theorem frame_join {A : Nat → Prop} {D : va_G} {cl : List vw_C} {pre w post w1 : va_W} {H H1 : Heap} (hP : va_P D cl (pre ++ w ++ post) H) (hD : va_D A (pre ++ w ++ post)) (hk : ∀ q : Nat, q < H.size → ¬ va_A w H.size q → H1[q]? = H[q]?) (hF : ∀ q, va_A w H.size q → A q) (hP1 : va_P D cl w1 H1) (hD1 : va_D (va_A w H.size) w1) : va_P D cl (pre ++ w1 ++ post) H1 ∧ va_D A (pre ++ w1 ++ post) := by
  have hP := va_P_iff.mp hP
  have hD := va_D_iff.mp hD
  have hP1 := va_P_iff.mp hP1
  have hD1 := va_D_iff.mp hD1
  have inw : ∀ q, va_A w H.size q → q < H.size → ∃ x ∈ w, x.1 = q := by
    intro q h hl
    rcases h with ⟨k, e, h⟩ | h
    · exact ⟨_, List.mem_of_getElem? h, rfl⟩
    · omega
  rw [List.map_append, List.map_append] at hD
  have nd := hD.1
  have n1 := List.nodup_append.mp nd
  have n2 := List.nodup_append.mp n1.1
  have outP : ∀ x ∈ pre, x.1 < H.size ∧ ¬ va_A w H.size x.1 := by
    intro x hx
    have hl := (hP x (List.mem_append_left _ (List.mem_append_left _ hx))).lt
    refine ⟨hl, fun z => ?_⟩
    obtain ⟨y, hy, e⟩ := inw _ z hl
    exact n2.2.2 x.1 (List.mem_map_of_mem hx) y.1 (List.mem_map_of_mem hy) e.symm
  have outQ : ∀ x ∈ post, x.1 < H.size ∧ ¬ va_A w H.size x.1 := by
    intro x hx
    have hl := (hP x (List.mem_append_right _ hx)).lt
    refine ⟨hl, fun z => ?_⟩
    obtain ⟨y, hy, e⟩ := inw _ z hl
    exact n1.2.2 y.1 (List.mem_append_right _ (List.mem_map_of_mem hy)) x.1 (List.mem_map_of_mem hx) e
  refine ⟨va_P_iff.mpr fun q hq => ?_, va_D_iff.mpr ⟨?_, fun q hq => ?_⟩⟩
  · rcases List.mem_append.mp hq with h | h
    · rcases List.mem_append.mp h with h | h
      · exact (hP q (List.mem_append_left _ (List.mem_append_left _ h))).kept (hk _ (outP q h).1 (outP q h).2)
      · exact hP1 q h
    · exact (hP q (List.mem_append_right _ h)).kept (hk _ (outQ q h).1 (outQ q h).2)
  · rw [List.map_append, List.map_append]
    refine List.nodup_append.mpr ⟨List.nodup_append.mpr ⟨n2.1, hD1.1, ?_⟩, n1.2.1, ?_⟩
    · intro a ha b hb e
      obtain ⟨x, hx, rfl⟩ := List.mem_map.mp ha
      obtain ⟨y, hy, rfl⟩ := List.mem_map.mp hb
      exact (outP x hx).2 (by rw [e]; exact hD1.2 y hy)
    · intro a ha b hb e
      obtain ⟨y, hy, rfl⟩ := List.mem_map.mp hb
      rcases List.mem_append.mp ha with h | h
      · exact n1.2.2 a (List.mem_append_left _ h) y.1 (List.mem_map_of_mem hy) e
      · obtain ⟨x, hx, rfl⟩ := List.mem_map.mp h
        exact (outQ y hy).2 (by rw [← e]; exact hD1.2 x hx)
  · rcases List.mem_append.mp hq with h | h
    · rcases List.mem_append.mp h with h | h
      · exact hD.2 q (List.mem_append_left _ (List.mem_append_left _ h))
      · exact hF _ (hD1.2 q h)
    · exact hD.2 q (List.mem_append_right _ h)
theorem frame_sub {A : Nat → Prop} {D : va_G} {cl : List vw_C} {pre w post : va_W} {H : Heap} (hP : va_P D cl (pre ++ w ++ post) H) (hD : va_D A (pre ++ w ++ post)) : va_P D cl w H ∧ va_D A w := by
  have hD := va_D_iff.mp hD
  refine ⟨va_P_iff.mpr fun q hq => va_P_iff.mp hP q (List.mem_append_left _ (List.mem_append_right _ hq)), va_D_iff.mpr ⟨?_, fun q hq => hD.2 q (List.mem_append_left _ (List.mem_append_right _ hq))⟩⟩
  have h1 := hD.1
  rw [List.map_append, List.map_append] at h1
  exact (List.nodup_append.mp (List.nodup_append.mp h1).1).2.1
/-- a contract whose end is any picture -/
def CtP (l : Launch) (G : AG) (y : MethodName) (bytes : ByteArray) (maxL : Nat) (ret : Option FieldType) (rm : Room) (av : List Value) (w0 : va_W) (Post : Option Value → va_W → Prop) : Prop :=
  ∀ sz : Nat, Met l y (ws_ y bytes maxL ret) rm (va_Pc av (fun U => U.heap.size = sz ∧ va_P G.1 vwCl w0 U.heap ∧ va_K G.1 vwCl (tyG G) U ∧ va_D (fun _ => True) w0))
    (fun _ st o t => (∃ (r : Option Value) (w1 : va_W), o = .returned r ∧ Post r w1 ∧ va_P G.1 vwCl w1 t.heap ∧ va_D (va_A w0 sz) w1) ∧ va_F (va_A w0 sz) st t) rm.cells rm.slots (va_A w0 sz)
theorem CtW.toP {l : Launch} {G : AG} {y : MethodName} {bytes : ByteArray} {maxL : Nat} {ret : Option FieldType} {rm : Room} {av : List Value} {w : St → va_W} {σ : St} {Post : Option Value → St → Prop} (h : CtW l G y bytes maxL ret rm av w σ Post) : CtP l G y bytes maxL ret rm av (w σ) (fun r w1 => ∃ σ', w1 = w σ' ∧ Post r σ') := by
  intro sz p e ha hc hk s m args below hf hp hP hT
  obtain ⟨k, o, h1, h2, h3, ⟨⟨r, σ', e1, hp1, hP1, hD1⟩, hF⟩, hL⟩ := h sz p e ha hc hk s m args below hf hp hP hT
  exact ⟨k, o, h1, h2, h3, ⟨⟨r, _, e1, ⟨σ', rfl, hp1⟩, hP1, hD1⟩, hF⟩, hL⟩
def AKi (Z : AZ) : Prop := Z.2.1.2.2.2.1.name = "<init>"
set_option maxHeartbeats 1000000 in
theorem CtP.ofInit {l : Launch} {G : AG} {y : MethodName} {bytes : ByteArray} {maxL : Nat} {rm : Room} {av : List Value} {w0 : va_W} {Post : va_W → Prop}
    (hy : plainName y.cls = true) (hyn : y.name = "<init>") (hlen : (lg_sl av).length ≤ maxL)
    (body : ∀ Z : AZ, AZl Z = l → AK Z G bytes y.cls maxL rm → AKi Z → (∀ pc lv w1, decode bytes pc = .ok (.return_, 1) → Post w1 → AX Z rm.cells rm.slots pc lv [] w1) → AX Z 0 0 0 (lv_args 0 av) [] w0) : CtP l G y bytes maxL none rm av w0 (fun r w1 => r = none ∧ Post w1) := by
  intro sz
  refine Met.ofW (cc := bytes) (maxL := maxL) (ret := none) hy rfl ?_
  intro p e s m args below meth c s₁ B hml hv
  obtain ⟨rfl, hsz, hP, hK, hD0⟩ := hv
  have hx := B.exec
  have hb := B.bytes
  have hr := B.returns
  have hts := atoms_spec (ws := ws_ y bytes maxL none) B.pre
  have hts : ∀ w ∈ lw_all, w.before _ s = true := fun w h => hts w (List.mem_cons_of_mem _ h)
  have hown : s.vm.findClass y.cls = some m.cls := findClass_of_methodNamed B.named
  have hlocks := B.notSynchronized
  have hin : meth.name = "<init>" := ((name_of_methodNamed B.named B.method).1).trans hyn
  subst hsz
  have hD := hD0.self (sz := s.heap.size)
  have hA : ∀ q : Nat, s.heap.size ≤ q → va_A w0 s.heap.size q := fun q h => Or.inr h
  have hS : va_S (va_A w0 s.heap.size) s.heap s.heap [] := va_S.rf
  have hl := lv_entry av (n := maxL) hlen
  rw [lg_entry_eq]
  generalize (lg_sl av ++ List.replicate (maxL - (lg_sl av).length) Slot.unset).toArray = ls at hl ⊢
  have main := body ((p, l, e, (headSpec (ws_ y bytes maxL none) rm).room, s), (m, av.toArray, below, meth, c), (maxL, G.1, vwCl, tyG G, va_A w0 s.heap.size), MQ below (fun _ st o t => (∃ (r : Option Value) (w1 : va_W), o = .returned r ∧ (r = none ∧ Post w1) ∧ va_P G.1 vwCl w1 t.heap ∧ va_D (va_A w0 s.heap.size) w1) ∧ va_F (va_A w0 s.heap.size) st t) av.toArray s rm.cells rm.slots (va_A w0 s.heap.size)) rfl
    ⟨hx, hb, hml, hown, hts, hK, hA, rfl, rfl, rfl, rfl, rfl, hlocks⟩ hin ?_
  · exact main s.heap [] ls hP hD hS hl
  · intro pc lv w1 d hp H locs ls hP hD hS hl
    exact W.vret hx hb hr (fun t ht hW => ⟨⟨_, w1, rfl, ⟨rfl, hp⟩, by rw [ht]; exact hP, hD⟩, hS.F ht⟩) hS.2.2 d
/-! rows of constructors -/
theorem ax_objInit {Z : AZ} {G : AG} {cc : ByteArray} {own : String} {mL : Nat} {rm : Room} {k n pc : Nat} {lv : List (Nat × Value)} {rest : List Value} {ws : va_W} (K : AK Z G cc own mL rm) {i a : Nat} (h1 : Cond.methodLink own i Lib.objectInit ∈ lw_all) (h2 : Cond.instanceMethod Lib.objectInit ∈ lw_all) (h3 : Cond.code Lib.objectInit ⟨#[0xb1]⟩ 1 none ∈ lw_all) (hf : 1 ≤ rm.frames) (hlo : (rest.map fun v => v.category).sum + 12 ≤ rm.locals) (d : decode cc pc = .ok (.invokespecial i, 3)) (kk : AX Z k n (pc + 3) lv rest ws) : AX Z k n pc lv (.ref a :: rest) ws := by
  obtain ⟨⟨p, l, e, R, s⟩, ⟨m, args, below, meth, c⟩, ⟨nL, D, cl, tys, A⟩, Q⟩ := Z
  obtain ⟨hx, hb, hml, hown, hts, hK, hA, hnL, hR, hD0, hcl, hty, hlk⟩ := K
  subst hR
  exact fun H locs ls hP hD hS hl => W.objInit hx hb hown (hts _ h1) (hts _ h2) (hts _ h3) rfl (by rw [hml]; exact hl.1) rfl d hf (by show 2 * 0 + _ + 12 ≤ _; omega) (kk H locs ls hP hD hS hl)
theorem ax_newaI {Z : AZ} {G : AG} {cc : ByteArray} {own : String} {mL : Nat} {rm : Room} {k n pc : Nat} {lv : List (Nat × Value)} {rest : List Value} {ws : va_W} (K : AK Z G cc own mL rm) {x : Int32} (N' : Nat) (hn : ¬ x < 0) (hN : x.toNatClampNeg = N') (hbytes : N' * 8 ≤ 536870912) (hc : k + 1 ≤ rm.cells) (hs : n + N' ≤ rm.slots) (d : decode cc pc = .ok (.newarray .int, 2)) (kk : ∀ q : Nat, AX Z (k + 1) (n + N') (pc + 2) lv (.ref q :: rest) (ws ++ [(q, .inl (G.2 0, (N', .inl fun _ => 0)))])) : AX Z k n pc lv (.int x :: rest) ws := by
  obtain ⟨⟨p, l, e, R, s⟩, ⟨m, args, below, meth, c⟩, ⟨nL, D, cl, tys, A⟩, Q⟩ := Z
  obtain ⟨hx, hb, hml, hown, hts, hK, hA, hnL, hR, hD0, hcl, hty, hlk⟩ := K
  subst hR; subst hty
  intro H locs ls hP hD hS hl
  refine va_newa (atype := .int) (ty := .int) hx hb (hts _ q286) rfl hK hP hD hS hA (a0 := (N', .inl fun _ => 0)) (fun cA => rfl) hn hN (by show N' * 4 ≤ _; omega) hc hs d (fun q cA H1 hK1 hP1 hD1 hS1 => ?_)
  have e1 := (hK1.2 4 (cA, .int) rfl).2
  have e2 := (hK.2 0 (G.2 0, .int) rfl).2
  have e3 : cA = G.2 0 := Option.some.inj (e1.symm.trans e2)
  rw [e3] at hP1 hD1
  exact kk q H1 locs ls hP1 hD1 hS1 hl
theorem ax_newaJ {Z : AZ} {G : AG} {cc : ByteArray} {own : String} {mL : Nat} {rm : Room} {k n pc : Nat} {lv : List (Nat × Value)} {rest : List Value} {ws : va_W} (K : AK Z G cc own mL rm) {x : Int32} (N' : Nat) (hn : ¬ x < 0) (hN : x.toNatClampNeg = N') (hbytes : N' * 8 ≤ 536870912) (hc : k + 1 ≤ rm.cells) (hs : n + N' ≤ rm.slots) (d : decode cc pc = .ok (.newarray .long, 2)) (kk : ∀ q : Nat, AX Z (k + 1) (n + N') (pc + 2) lv (.ref q :: rest) (ws ++ [(q, .inl (G.2 1, (N', .inr (.inl fun _ => 0))))])) : AX Z k n pc lv (.int x :: rest) ws := by
  obtain ⟨⟨p, l, e, R, s⟩, ⟨m, args, below, meth, c⟩, ⟨nL, D, cl, tys, A⟩, Q⟩ := Z
  obtain ⟨hx, hb, hml, hown, hts, hK, hA, hnL, hR, hD0, hcl, hty, hlk⟩ := K
  subst hR; subst hty
  intro H locs ls hP hD hS hl
  refine va_newa (atype := .long) (ty := .long) hx hb (hts _ q287) rfl hK hP hD hS hA (a0 := (N', .inr (.inl fun _ => 0))) (fun cA => rfl) hn hN (by show N' * 8 ≤ _; omega) hc hs d (fun q cA H1 hK1 hP1 hD1 hS1 => ?_)
  have e1 := (hK1.2 4 (cA, .long) rfl).2
  have e2 := (hK.2 1 (G.2 1, .long) rfl).2
  have e3 : cA = G.2 1 := Option.some.inj (e1.symm.trans e2)
  rw [e3] at hP1 hD1
  exact kk q H1 locs ls hP1 hD1 hS1 hl
theorem ax_newaZ {Z : AZ} {G : AG} {cc : ByteArray} {own : String} {mL : Nat} {rm : Room} {k n pc : Nat} {lv : List (Nat × Value)} {rest : List Value} {ws : va_W} (K : AK Z G cc own mL rm) {x : Int32} (N' : Nat) (hn : ¬ x < 0) (hN : x.toNatClampNeg = N') (hbytes : N' * 8 ≤ 536870912) (hc : k + 1 ≤ rm.cells) (hs : n + N' ≤ rm.slots) (d : decode cc pc = .ok (.newarray .boolean, 2)) (kk : ∀ q : Nat, AX Z (k + 1) (n + N') (pc + 2) lv (.ref q :: rest) (ws ++ [(q, .inl (G.2 2, (N', .inl fun _ => 0)))])) : AX Z k n pc lv (.int x :: rest) ws := by
  obtain ⟨⟨p, l, e, R, s⟩, ⟨m, args, below, meth, c⟩, ⟨nL, D, cl, tys, A⟩, Q⟩ := Z
  obtain ⟨hx, hb, hml, hown, hts, hK, hA, hnL, hR, hD0, hcl, hty, hlk⟩ := K
  subst hR; subst hty
  intro H locs ls hP hD hS hl
  refine va_newa (atype := .boolean) (ty := .boolean) hx hb (hts _ q288) rfl hK hP hD hS hA (a0 := (N', .inl fun _ => 0)) (fun cA => rfl) hn hN (by show N' * 1 ≤ _; omega) hc hs d (fun q cA H1 hK1 hP1 hD1 hS1 => ?_)
  have e1 := (hK1.2 4 (cA, .boolean) rfl).2
  have e2 := (hK.2 2 (G.2 2, .boolean) rfl).2
  have e3 : cA = G.2 2 := Option.some.inj (e1.symm.trans e2)
  rw [e3] at hP1 hD1
  exact kk q H1 locs ls hP1 hD1 hS1 hl
theorem ax_newaB {Z : AZ} {G : AG} {cc : ByteArray} {own : String} {mL : Nat} {rm : Room} {k n pc : Nat} {lv : List (Nat × Value)} {rest : List Value} {ws : va_W} (K : AK Z G cc own mL rm) {x : Int32} (N' : Nat) (hn : ¬ x < 0) (hN : x.toNatClampNeg = N') (hbytes : N' * 8 ≤ 536870912) (hc : k + 1 ≤ rm.cells) (hs : n + N' ≤ rm.slots) (d : decode cc pc = .ok (.newarray .byte, 2)) (kk : ∀ q : Nat, AX Z (k + 1) (n + N') (pc + 2) lv (.ref q :: rest) (ws ++ [(q, .inl (G.2 3, (N', .inl fun _ => 0)))])) : AX Z k n pc lv (.int x :: rest) ws := by
  obtain ⟨⟨p, l, e, R, s⟩, ⟨m, args, below, meth, c⟩, ⟨nL, D, cl, tys, A⟩, Q⟩ := Z
  obtain ⟨hx, hb, hml, hown, hts, hK, hA, hnL, hR, hD0, hcl, hty, hlk⟩ := K
  subst hR; subst hty
  intro H locs ls hP hD hS hl
  refine va_newa (atype := .byte) (ty := .byte) hx hb (hts _ q499) rfl hK hP hD hS hA (a0 := (N', .inl fun _ => 0)) (fun cA => rfl) hn hN (by show N' * 1 ≤ _; omega) hc hs d (fun q cA H1 hK1 hP1 hD1 hS1 => ?_)
  have e1 := (hK1.2 4 (cA, .byte) rfl).2
  have e2 := (hK.2 3 (G.2 3, .byte) rfl).2
  have e3 : cA = G.2 3 := Option.some.inj (e1.symm.trans e2)
  rw [e3] at hP1 hD1
  exact kk q H1 locs ls hP1 hD1 hS1 hl
theorem ax_putF {Z : AZ} {G : AG} {cc : ByteArray} {own : String} {mL : Nat} {rm : Room} {k n pc : Nat} {lv : List (Nat × Value)} {rest : List Value} {ws : va_W} (K : AK Z G cc own mL rm) (Ki : AKi Z) {C : String} {T : u_T} {N ci index a : Nat} {fs : List Value} {v : Value} (hin : ∀ w ∈ u_ws C T N, w ∈ lw_all) (ty0 : Nat → FieldType) (hty0 : ∀ k, k < N → parseFieldDescriptor (T k).2.2.1 = some (ty0 k)) (hnm : ∀ a, a < N → ∀ b, b < N → a ≠ b → (T a).2.1 ≠ (T b).2.1) (q0 : Nat) (he : ws[q0]? = some (a, .inr (ci, fs))) (hc : vwCl[ci]? = some (C, T, N)) (kf : Nat) (hk : kf < N) (hlink : Cond.fieldLink own index (T kf).1 (T kf).2.1 (T kf).2.2.1 ∈ lw_all) (hfin : (T kf).2.2.2 = true) (hdecl : (T kf).1 = own) (hn : narrow (ty0 kf) v = v) (hfit : fits (ty0 kf) v = true) (hl0 : kf < fs.length) (d : decode cc pc = .ok (.putfield index, 3)) {ws' : va_W} (hw : ws.set q0 (a, .inr (ci, fs.set kf v)) = ws') (kk : AX Z k n (pc + 3) lv rest ws') : AX Z k n pc lv (v :: .ref a :: rest) ws := by
  obtain ⟨⟨p, l, e, R, s⟩, ⟨m, args, below, meth, c⟩, ⟨nL, D, cl, tys, A⟩, Q⟩ := Z
  obtain ⟨hx, hb, hml, hown, hts, hK, hA, hnL, hR, hD0, hcl, hty, hlk⟩ := K
  subst hcl; subst hw
  exact fun H locs ls hP hD hS hl => va_putF hx hb hts hin ty0 hty0 hnm hown hK hP hD hS q0 he hc kf hk (hts _ hlink) (fun x h => h) hfin Ki hdecl (hty0 kf hk) hn hfit hl0 d (fun H1 locs1 hP1 hD1 hS1 => kk H1 locs1 ls hP1 hD1 hS1 hl)
