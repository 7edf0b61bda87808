/-! 'checkcast' that fails, of a row to another array class -/
section CN
variable {p : Program} {l : Launch} {e : Env} {R : Room} {s : State} {m : MethodId} {args : Array Value} {below : List Frame} {meth : Method} {c : Code} {T : State} {locs : List Loc} {cells slots : Nat}
theorem castNoX (X : Stand p l e R s m args below meth c T locs cells slots) (hexec : p.tables.exec = Jvm.exec)
    {own name : String} {index : Nat} (hown : s.vm.findClass own = some m.cls) (hlink : (Cond.classLink own index name).before args s = true)
    {a : Addr} {cell : Cell} {cT : ClassId} {ks : Class} (hcell : T.heap[a]? = some cell) (hobj : ∀ k, cell.vm ≠ .statics k) (hks : s.vm.classes[cell.cls]? = some ks)
    (hcT : s.vm.findClass name = some cT) (hasg : s.vm.assignable cell.cls cT = false)
    {g : JFrame} (hg : g.method = m) {rest : List Value} (hstack : g.stack = .ref a :: rest) (hdg : decode c.code g.pc = .ok (.checkcast index, 3)) :
    ∃ (vm' : Vm) (ks' kt' : Class), Stand p l e R s m args below meth c (T.setVm vm') locs cells slots ∧ s.vm.Alike vm' ∧ vm'.classes[cell.cls]? = some ks' ∧ vm'.classes[cT]? = some kt' ∧
      ∀ target, Steps p.tables e below (((T.setVm vm').setTop g).pushFrame (.throwNew "java/lang/ClassCastException" (some (Op.checkcast.message vm' ks' kt')) none)) target → Steps p.tables e below (T.setTop g) target := by
  have hpl : e.platform.magicAccessors = ({} : Platform).magicAccessors := by rw [X.admits.platform]
  obtain ⟨c', hc', hcl⟩ := Cond.classLink_spec hown hlink e.platform hpl
  cases hcT.symm.trans hc'
  obtain ⟨dk, _, _, kt, hd, _, _, _, _, hkt, _, hopen⟩ := hcl.here
  have hcl₀ := X.warmed.classLinks hcl
  have hW' : s.WarmedH (T.vm.noted m.cls index (.cls cT)) := X.warmed.noted hd hopen (State.rightAt_cls hcl)
  obtain ⟨ks', hks', -⟩ := hW'.alike.2.2 _ _ hks
  obtain ⟨kt', hkt', -⟩ := hW'.alike.2.2 _ _ hkt
  refine ⟨_, ks', kt', X.noted hW', hW'.alike, hks', hkt', fun target hrest => ?_⟩
  subst hg
  jvm_step X.here [hexec, hdg, checkcast.wp_cold (e := e) (s := T) (f := g) X.here.top hstack (resolveClass_links e.toSetting hcl₀) hcl₀.ready,
    checkcast.wp_ready (e := e) (s := T.setVm (T.vm.noted g.method.cls index (.cls cT))) (f := g) X.here.top hcl₀.ready hstack]
  refine ⟨cell, hcell, hobj, ks', hks', kt', hkt', ?_⟩
  rw [if_neg (by rw [hW'.alike.assignable, hasg]; decide)]
  exact hrest
end CN
/-- a primitive's array class, as its messages show it -/
def prA (k : Class) : Prop := k.hidden = none ∧ k.loader = none ∧ (∃ (c : ClassId) (t : FieldType), k.kind = .array c t) ∧ (k.name = "[B" ∨ k.name = "[S" ∨ k.name = "[I")
theorem prA_shown {k : Class} (h : prA k) : k.shown.toList.length = 2 := by
  obtain ⟨h1, h2, h3, h4⟩ := h
  unfold Class.shown
  rw [h1]
  show (dotted k.name).toList.length = 2
  rcases h4 with e | e | e <;> (rw [e]; decide)
theorem prA_prim {k : Class} (h : prA k) : k.ofPrimitives = true := by
  obtain ⟨h1, h2, ⟨c, t, h3⟩, h4⟩ := h
  unfold Class.ofPrimitives
  rw [h3]
  show ((withoutBrackets k.name).length == 1) = true
  rcases h4 with e | e | e <;> (rw [e]; decide)
theorem prA_home (vm : Vm) {k : Class} (h : prA k) : (vm.home k).toList.length ≤ 60 := by
  have h0 := prA_prim h
  unfold Vm.home Vm.moduleOf
  rw [if_pos h0, h.2.1]
  cases hm : vm.modules.find? (fun x => x.name == "java.base") with
  | none =>
    show ("unnamed module" ++ " of loader " ++ "'bootstrap'" : String).toList.length ≤ 60
    decide
  | some x =>
    have hx := List.find?_some hm
    have hx2 : x.name = "java.base" := by simpa using hx
    show ("module " ++ x.name ++ " of loader " ++ "'bootstrap'" : String).toList.length ≤ 60
    rw [hx2]
    decide
theorem prA_text (vm : Vm) {a b : Class} (ha : prA a) (hb : prA b) : (Op.checkcast.message vm a b).toList.length ≤ 230 ∧ ((Op.checkcast.message vm a b) == notModelled) = false := by
  have a1 := prA_shown ha
  have b1 := prA_shown hb
  have a2 := prA_home vm ha
  have b2 := prA_home vm hb
  have hh : (vm.homes a b).toList.length ≤ 140 := by
    unfold Vm.homes
    split
    · show (toString a.shown ++ toString " and " ++ toString b.shown ++ toString " are in " ++ toString (vm.home a)).toList.length ≤ 140
      simp only [String.toList_append, List.length_append]
      have q1 : (toString " and ").toList.length = 5 := by decide
      have q2 : (toString " are in ").toList.length = 8 := by decide
      have q3 : (toString a.shown).toList.length = 2 := a1
      have q4 : (toString b.shown).toList.length = 2 := b1
      have q5 : (toString (vm.home a)).toList.length ≤ 60 := a2
      omega
    · show (toString a.shown ++ toString " is in " ++ toString (vm.home a) ++ toString "; " ++ toString b.shown ++ toString " is in " ++ toString (vm.home b)).toList.length ≤ 140
      simp only [String.toList_append, List.length_append]
      have q1 : (toString " is in ").toList.length = 7 := by decide
      have q2 : (toString "; ").toList.length = 2 := by decide
      have q3 : (toString a.shown).toList.length = 2 := a1
      have q4 : (toString b.shown).toList.length = 2 := b1
      have q5 : (toString (vm.home a)).toList.length ≤ 60 := a2
      have q6 : (toString (vm.home b)).toList.length ≤ 60 := b2
      omega
  have e : Op.checkcast.message vm a b = toString "class " ++ toString a.shown ++ toString " cannot be cast to class " ++ toString b.shown ++ toString " (" ++ toString (vm.homes a b) ++ toString ")" := rfl
  constructor
  · rw [e]
    simp only [String.toList_append, List.length_append]
    have q1 : (toString "class ").toList.length = 6 := by decide
    have q2 : (toString " cannot be cast to class ").toList.length = 25 := by decide
    have q3 : (toString " (").toList.length = 2 := by decide
    have q4 : (toString ")").toList.length = 1 := by decide
    have q5 : (toString a.shown).toList.length = 2 := a1
    have q6 : (toString b.shown).toList.length = 2 := b1
    have q7 : (toString (vm.homes a b)).toList.length ≤ 140 := hh
    omega
  · rw [beq_eq_false_iff_ne]
    intro h
    have h2 := congrArg String.toList h
    have h4 : notModelled.toList = '\u0000' :: " a message that is not modelled".toList := by decide
    rw [e, h4] at h2
    simp only [String.toList_append] at h2
    have h5 : (toString "class ").toList = 'c' :: "lass ".toList := by decide
    rw [h5] at h2
    simp at h2
theorem text_bytes {t : String} {n : Nat} (h : t.toList.length ≤ n) : (stringBytes (stringToUtf16 t)).size ≤ 4 * n := by
  have b1 := stringBytes_size_le (stringToUtf16 t)
  have b2 := utf16_size_le t
  omega
theorem prA_of {vm : Vm} {c : ClassId} {k : Class} {nm : String} {comp : ClassId} {t : FieldType} (h : vm.findClass nm = some c) (hk : vm.classes[c]? = some k) (hkind : k.kind = .array comp t) (hn : nm = "[B" ∨ nm = "[S" ∨ nm = "[I") : prA k := by
  obtain ⟨hlt, hp, _⟩ := Array.findIdx?_eq_some_iff_getElem.mp h
  have e : vm.classes[c] = k := by
    have := Array.getElem?_eq_getElem hlt
    rw [hk] at this
    exact (Option.some.inj this).symm
  rw [e] at hp
  simp only [Bool.and_eq_true, beq_iff_eq, Option.isNone_iff_eq_none] at hp
  refine ⟨hp.1.1.2, hp.2, ⟨comp, t, hkind⟩, ?_⟩
  rw [hp.1.1.1]
  exact hn
section CW
variable {p : Program} {l : Launch} {e : Env} {R : Room} {s : State} {m : MethodId} {args : Array Value} {below : List Frame} {meth : Method} {c : Code} {H : Heap} {locs : List Loc} {cells slots : Nat} {Q : State → Prop}
variable {cc : ByteArray} {pc nL idx : Nat} {ls : Array Slot} {rest : List Value} {A : Nat → Prop} {D : va_G} {T ad ra : Nat → Nat} {M : Mem} {own : String}
/-- 'checkcast' of a row to another array class: the machine's note, the text bounded -/
theorem x_castNo {H0 : Heap} (C : XC D T own p m c cc nL s args) (J : XJ D T ad A H0 ra M H locs) {k : Nat} (hk : k < 4) (h : ¬ M 124 k < 0) {nm n1 : String} {tt : Nat} {ty : FieldType} (htt : rowT (M 124 k) = tt) (hty : (tyL T)[tt]? = some (T tt, ty)) (hf : ∀ U : State, va_RA U (T tt) ty → U.vm.findClass n1 = some (T tt)) (hn1 : n1 = "[B" ∨ n1 = "[S" ∨ n1 = "[I") (hnm : nm = "[B" ∨ nm = "[S" ∨ nm = "[I")
    {t2 : Nat} {ty2 : FieldType} (hty2 : (tyL T)[t2]? = some (T t2, ty2)) (hf2 : ∀ U : State, va_RA U (T t2) ty2 → U.vm.findClass nm = some (T t2))
    (hnc : va_Nc n1 nm s) (hlk : Cond.classLink own idx nm ∈ lw_all) (hdg : decode cc pc = .ok (.checkcast idx, 3))
    (kk : ∀ tx : String, (tx == notModelled) = false → (stringBytes (stringToUtf16 tx)).size ≤ 1000 → vx_Note p l e R s m args below meth c H locs cells slots Q (F0 m pc ls (.ref (ra k) :: rest)) nCCE tx) : W p l e R s m args below meth c H locs cells slots Q (F0 m pc ls (.ref (ra k) :: rest)) := by
  subst htt
  intro U hU X
  have hcell := J.1 _ _ (cX_row (T := T) (ad := ad) (ra := ra) hk h)
  have hr1 := hf s (C.2.1.2 _ _ hty).2
  have hr2 := hf2 s (C.2.1.2 _ _ hty2).2
  obtain ⟨-, k1, hk1, cm1, hkk1⟩ := (C.2.1.2 _ _ hty).1 0 (fun _ => .null)
  obtain ⟨-, k2, hk2, cm2, hkk2⟩ := (C.2.1.2 _ _ hty2).1 0 (fun _ => .null)
  have hasg : s.vm.assignable (T (rowT (M 124 k))) (T t2) = false := by
    obtain ⟨c3, t3, w1, w2, w3⟩ := hnc
    cases hr1.symm.trans w1
    cases hr2.symm.trans w2
    exact w3
  obtain ⟨vm', ks', kt', X', hal, hks', hkt', st⟩ := castNoX X C.1.1 C.1.2.2.2.1 (C.1.2.2.2.2 _ hlk) (a := ra k) (cell := vp_cell (T (rowT (M 124 k))) (ci (M 125 k), .inl (M (120 + k)))) (ks := k1) (cT := T t2) (by rw [hU]; exact hcell) (fun _ q => by cases q) hk1 hr2 hasg (g := F0 m pc ls (.ref (ra k) :: rest)) rfl rfl (by rw [C.1.2.1]; exact hdg)
  obtain ⟨k1', e1, e2⟩ := hal.2.2 _ _ hk1
  obtain ⟨k2', e3, e4⟩ := hal.2.2 _ _ hk2
  cases e1.symm.trans hks'
  cases e3.symm.trans hkt'
  have p1 : prA ks' := prA_of (vm := vm') (by rw [hal.findClass]; exact hr1) e1 (comp := cm1) (t := ty) (by rw [e2]; exact hkk1) hn1
  have p2 : prA kt' := prA_of (vm := vm') (by rw [hal.findClass]; exact hr2) e3 (comp := cm2) (t := ty2) (by rw [e4]; exact hkk2) hnm
  obtain ⟨q1, q2⟩ := prA_text vm' p1 p2
  obtain ⟨t, a1, b1⟩ := kk _ q2 (Nat.le_trans (text_bytes q1) (by decide)) (U.setVm vm') hU X'
  exact ⟨t, st t a1, b1⟩
end CW
