/-! exceptions made by new E(): starting text out of the kit (laws/EXCEPTIONS: vx_frame, vx_rebase, vx_ctorMade0), then rows of MF -/
set_option maxRecDepth 100000
section
variable {p : Program} {l : Launch} {e : Env} {R : Room} {s : State} {m : MethodId} {args : Array Value} {below : List Frame} {meth : Method} {c : Code} {H : Heap} {locs : List Loc} {cells slots : Nat} {Q : State → Prop}
theorem vx_frame {U : State} {k n : Nat} (h : s.sameButNew ({ U with vm := s.vm } : State) locs k n) : s.heap.size ≤ U.heap.size ∧ ∀ q : Nat, q < s.heap.size → (∀ z ∈ locs, z.base ≠ q) → U.heap[q]? = s.heap[q]? := by
  obtain ⟨-, h2, -, -, -, h6⟩ := h
  refine ⟨h2, fun q hq hz => ?_⟩
  obtain ⟨c9, e1, e2, e3, e4⟩ := h6 q _ (Array.getElem?_eq_getElem hq)
  have hs : c9.slots = (s.heap[q]).slots := Array.ext_getElem? fun i => e4 i fun hm => hz _ hm rfl
  have h9 : c9 = s.heap[q] := by
    rw [hs] at e2
    exact e2
  have e5 : U.heap[q]? = some c9 := e1
  rw [e5, h9, Array.getElem?_eq_getElem hq]
/-- the same frame, seen from here: as if the method were called anew in this heap -/
theorem vx_rebase {T : State} (X : Stand p l e R s m args below meth c T locs cells slots) {R' : Room} (hf : R'.frames ≤ R.frames) (hl : R'.locals ≤ R.locals) (hc : cells + R'.cells ≤ R.cells) (hs : slots + R'.slots ≤ R.slots) :
    Stand p l e R' ((T.setVm s.vm).setFrames (.invoking m args :: below)) m args below meth c T [] 0 0 := by
  have htop : (T.setVm s.vm).topJava?.isSome := X.here.top
  have hF : ((T.setVm s.vm).setFrames (.invoking m args :: below)).frames = .invoking m args :: below := State.frames_setFrames _ (State.cur_lt_of_top htop)
  obtain ⟨g₀, hg0⟩ := Option.isSome_iff_exists.mp htop
  obtain ⟨r, hr⟩ := State.topJava?_eq_some.mp hg0
  have hl9 : e.platform.stackLimits (T.setVm s.vm).me = e.platform.stackLimits s.me := X.limits
  have hb9 : (T.setVm s.vm).me.stackBytes = s.me.stackBytes := X.bytes
  refine ⟨X.admits, X.cas, X.clock, hF, ?_, X.hears, X.method, X.code, X.here, X.tail, X.warmed, ?_, ?_, ?_⟩
  · have h := X.room
    have hU : ((T.setVm s.vm).setFrames (.invoking m args :: below)).localsInUse = s.localsInUse := by
      rw [State.localsInUse_invoking hF (meth := meth) (c := c) X.method X.code, State.localsInUse_invoking X.frames X.method X.code]
    simp only [State.hasRoom, Bool.and_eq_true, decide_eq_true_eq] at h ⊢
    obtain ⟨⟨⟨⟨h1, h2, h3, h4, h5, h6⟩, h7⟩, h8⟩, h9⟩ := h
    rw [X.frames, List.length_cons] at h2 h3
    have q1 := X.heapSize
    have q2 := X.used
    simp only [hF, hU, List.length_cons, State.stackLimits_setFrames, State.stackBytes_setFrames, hl9, hb9]
    refine ⟨⟨⟨⟨by omega, by omega, by omega, by omega, by omega, h6⟩, ?_⟩, ?_⟩, X.book⟩
    · show T.heap.size + R'.cells ≤ e.platform.maxCells
      omega
    · show T.slotsUsed + R'.slots ≤ e.platform.maxSlots
      omega
  · rw [State.stackLimits_setFrames]; rfl
  · rw [State.stackBytes_setFrames]; rfl
  · refine ⟨?_, Nat.le_refl _, Nat.le_refl _, ?_, ?_, fun a c9 h9 => ⟨c9, h9, rfl, rfl, fun _ _ => rfl⟩⟩
    · obtain ⟨t, ht, -⟩ := State.frames_cons hr
      show T.setVm s.vm = { ((T.setVm s.vm).setFrames (.invoking m args :: below)).setFrames (T.setVm s.vm).frames with heap := T.heap, slotsUsed := T.slotsUsed }
      rw [State.setFrames_setFrames, State.setFrames_self ht]
      rfl
    · show T.slotsUsed = T.slotsUsed + ((T.heap.toList.drop T.heap.size).map (·.slots.size)).sum
      rw [List.drop_eq_nil_of_le (Nat.le_of_eq Array.length_toList)]
      rfl
    · show ((T.heap.toList.drop T.heap.size).map (·.slots.size)).sum ≤ 0
      rw [List.drop_eq_nil_of_le (Nat.le_of_eq Array.length_toList)]
      exact Nat.le_refl _
theorem vx_back9 {T S : State} {R' : Room} {k n : Nat} (X : Stand p l e R s m args below meth c T locs cells slots) (Y : Stand p l e R' ((T.setVm s.vm).setFrames (.invoking m args :: below)) m args below meth c T [] 0 0) (Z : Stand p l e R' ((T.setVm s.vm).setFrames (.invoking m args :: below)) m args below meth c S [] k n) :
    Stand p l e R s m args below meth c S locs (cells + k) (slots + n) := by
  have hW0 : s.WarmedH ((T.setVm s.vm).setFrames (.invoking m args :: below)).vm := State.WarmedH.refl s
  refine { admits := X.admits, cas := X.cas, clock := X.clock, frames := X.frames, room := X.room, hears := X.hears, method := X.method, code := X.code, here := Z.here, tail := Z.tail, warmed := State.WarmedH.trans hW0 Z.warmed, limits := Z.limits.trans (Y.limits.symm.trans X.limits), bytes := Z.bytes.trans (Y.bytes.symm.trans X.bytes), same := ?_ }
  obtain ⟨e1, e2⟩ := Z.same
  rw [State.setFrames_setFrames] at e1
  have h2 : (T.setVm s.vm).sameButNew (S.setVm s.vm) [] k n := ⟨e1, e2⟩
  have h3 := X.same.trans h2
  rw [List.append_nil] at h3
  exact h3
end
section
variable {p : Program} {l : Launch} {e : Env} {R : Room} {s : State} {m₀ : MethodId} {args : Array Value} {below : List Frame} {meth : Method} {c : Code} {W : State} {locs : List Loc} {cells slots : Nat}
set_option maxHeartbeats 1000000 in
theorem vx_ctorMade0 (X : Stand p l e R s m₀ args below meth c W locs cells slots) (hexec : p.tables.exec = Jvm.exec) (htr : e.platform.stackTraces = false) {own cls : String} {names : List String} {ic : Nat}
    (hown : s.vm.findClass own = some m₀.cls) (hcls : Bundle.fit cls = true) (hnames : ∀ n ∈ names, Bundle.fit n = true)
    (h : ∀ a ∈ Bundle.ownAtoms0 own ic cls names, a.before args s = true)
    (hlocs : ∀ x ∈ locs, ∀ cell, s.heap[x.base]? = some cell → cell.vm.isStatics = false)
    {a : Addr} {cX : ClassId} {kX : Class} (hfoundX : s.vm.findClass cls = some cX) (hkX : s.vm.classes[cX]? = some kX) (hcell : W.heap[a]? = some (freshCell cX kX)) (hnew : s.heap.size ≤ a)
    {g : JFrame} (hg : g.method = m₀) (hsize : g.locals.size = c.maxLocals) {rest : List Value} (hstack : g.stack = .ref a :: .ref a :: rest)
    (hd6 : decode c.code g.pc = .ok (.invokespecial ic, 3))
    (hRframes : names.length + 3 < R.frames) (hRlocals : 2 * g.monitorRoom + ((Value.ref a :: rest).map fun v => v.category).sum + (13 * (names.length + 1) + 41) ≤ R.locals) :
    ∃ (V : State) (ce : Cell) (L : List Loc), Stand p l e R s m₀ args below meth c (V.setCell a ce) (locs ++ L) cells slots ∧ (∀ y ∈ L, y.base = a) ∧ a < V.heap.size ∧ ce.cls = cX ∧ ce.vm = .none ∧
      ∀ target, Steps p.tables e below ((V.setCell a ce).setTop { g with stack := .ref a :: rest, pc := g.pc + 3 }) target → Steps p.tables e below (W.setTop g) target := by
  have howns : e.platform.frameOwnsMonitors = true := by rw [X.admits.platform]
  have hfin : e.platform.finalization = false := by rw [X.admits.platform]
  have hpl : e.platform.magicAccessors = ({} : Platform).magicAccessors := by rw [X.admits.platform]
  have a' : ∀ x, x ∈ Bundle.ownAtoms0 own ic cls names → x.holds args s none s [] = true := fun x hx => h x hx
  obtain ⟨T, Z, L, LZ, Y⟩ := ThrowableC.of_atoms (args := args) howns hfin hpl (fun x hx => h x (by simp [Bundle.ownAtoms0, hx]))
  obtain ⟨P1, Ps, hlen, L1, hL, hP1m, hlink1, hlink⟩ := Bundle.chain0 (args := args) hpl Y.init0 names cls hcls hnames (fun x hx => h x (by simp [Bundle.ownAtoms0, hx]))
  have hfound : s.vm.findClass cls = some P1.m.cls := findClass_of_methodNamed hP1m
  cases Option.some.inj (hfoundX.symm.trans hfound)
  obtain ⟨c1, kX', hc1, hk, hord, -, -, hn6⟩ := Cond.instantiable_spec (a' (.instantiable cls 6) (by simp [Bundle.ownAtoms0]))
  cases Option.some.inj (hc1.symm.trans hfound)
  cases Option.some.inj (hkX.symm.trans hk)
  have hsel0 : selectMethod e.platform s.vm P1.m.cls T.fill0 = .method T.fill0 := by
    obtain ⟨c2, r2, m2, q1, q2, q3, q4, -⟩ := Cond.selects_spec (a' (.selects cls Bundle.tFill0 Bundle.tFill0) (by simp [Bundle.ownAtoms0]))
    cases Option.some.inj (q1.symm.trans hfound)
    cases Option.some.inj (q2.symm.trans (State.methodFound?_of_named Y.fill0 (by decide)))
    cases Option.some.inj (q3.symm.trans Y.fill0)
    rw [Launch.admits_selectMethod X.admits]; exact q4
  have hselF : selectMethod e.platform s.vm P1.m.cls T.fill = .method T.fill := by
    obtain ⟨c2, r2, m2, q1, q2, q3, q4, -⟩ := Cond.selects_spec (a' (.selects cls Bundle.tFill Bundle.tFill) (by simp [Bundle.ownAtoms0]))
    cases Option.some.inj (q1.symm.trans hfound)
    cases Option.some.inj (q2.symm.trans (State.methodFound?_of_named Y.fill (by decide)))
    cases Option.some.inj (q3.symm.trans Y.fill)
    rw [Launch.admits_selectMethod X.admits]; exact q4
  obtain ⟨cellS0, hcS0, hiss⟩ := Y.statics
  obtain ⟨u0, hu0⟩ := Cond.staticRefV Y.unassigned L.unassignedStatic L.statics hcS0 hiss (a' (.isRef (.static Bundle.tN "UNASSIGNED_STACK" Bundle.steD)) (by simp [Bundle.ownAtoms0]))
  obtain ⟨sen, hsen⟩ := Cond.staticRefV Y.sentinel L.sentinelStatic L.statics hcS0 hiss (a' (.isRef (.static Bundle.tN "SUPPRESSED_SENTINEL" Bundle.listD)) (by simp [Bundle.ownAtoms0]))
  obtain ⟨ci198, i198, fB, hk198, hg198, ha198, hsB, -, hnB, htB, hffB⟩ := Cond.ownField (t := .object "java/lang/Object") Y.found L.cls (by decide +kernel) (a' (.fieldLink Bundle.tN 198 Bundle.tN "backtrace" "Ljava/lang/Object;") (by simp [Bundle.ownAtoms0])) (a' (.lays Bundle.tN Bundle.tN "backtrace" "Ljava/lang/Object;") (by simp [Bundle.ownAtoms0])) e.platform hpl
  obtain ⟨cellS, hcS', heS, -, hkeep⟩ := X.same.2.2.2.2.2 T.aS cellS0 hcS0
  have hcellS : W.heap[T.aS]? = some cellS := hcS'
  have hout' : ∀ i, (⟨T.aS, i⟩ : Loc) ∉ locs := fun i hmem => by
    have := hlocs _ hmem cellS0 hcS0
    rw [hiss] at this; cases this
  have hknownS : cellS.vm ≠ .unknown := by
    rw [heS]; intro hu
    rw [show cellS0.vm = .unknown from hu] at hiss
    cases hiss
  have hneS : T.aS ≠ a := Nat.ne_of_lt (Nat.lt_of_lt_of_le (Array.getElem?_eq_some_iff.mp hcS0).1 hnew)
  obtain ⟨iM, hffM⟩ := Y.msg
  obtain ⟨tyC, dC, hdC, hdnC⟩ := Cond.laysAt hfound hk Y.cause (a' (.lays cls Bundle.tN "cause" "Ljava/lang/Throwable;") (by simp [Bundle.ownAtoms0]))
  obtain ⟨tyS, dS, hdS, hdnS⟩ := Cond.laysAt hfound hk Y.stack (a' (.lays cls Bundle.tN "stackTrace" Bundle.steD) (by simp [Bundle.ownAtoms0]))
  obtain ⟨tyP, dP, hdP, hdnP⟩ := Cond.laysAt hfound hk Y.supp (a' (.lays cls Bundle.tN "suppressedExceptions" Bundle.listD) (by simp [Bundle.ownAtoms0]))
  obtain ⟨tyM, dM, hdM, hdnM⟩ := Cond.laysAt hfound hk hffM (a' (.lays cls Bundle.tN "detailMessage" "Ljava/lang/String;") (by simp [Bundle.ownAtoms0]))
  obtain ⟨tyB, dB, hdB, hdnB⟩ := Cond.laysAt hfound hk hffB (a' (.lays cls Bundle.tN "backtrace" "Ljava/lang/Object;") (by simp [Bundle.ownAtoms0]))
  have bC := Cond.laysApart hdB hdC hdnB hdnC (by rw [hnB, Y.causeName]; decide)
  have bS := Cond.laysApart hdB hdS hdnB hdnS (by rw [hnB, Y.stackName]; decide)
  have bP := Cond.laysApart hdB hdP hdnB hdnP (by rw [hnB, Y.suppName]; decide)
  have hskip : SkipFacts T e.platform s (fun u => u) u0 ((preparedCellV T.toThrowableT (freshCell P1.m.cls kX) a u0 sen).withEntry W.cur) :=
    ⟨{ ci198 := ci198, i198 := i198, fBack := fB }, ⟨hk198, hg198, ha198, hsB⟩, by
      have := fresh_default (c := P1.m.cls) tyB
      rw [htB] at this
      simpa [preparedCellV, Cell.setSlot, Cell.withEntry, Array.getElem?_setIfInBounds, bC, bS, bP, bC.symm, bS.symm, bP.symm, defaultValue] using this, fun _ _ => rfl⟩
  obtain ⟨tm, methC, cdC, kC, vm₁, hnC, -, -, -, -, -, -, -, hW₁, st1⟩ := Steps.initCold (tb := p.tables) (e := e) (below := below) (s := s) (U := W) X.here hexec X.warmed hpl hown (t := Bundle.init0 cls) rfl rfl (Bundle.fit_spec hcls).2
    (a' (.methodLink own ic (Bundle.init0 cls)) (by simp [Bundle.ownAtoms0])) (h (.instanceMethod (Bundle.init0 cls)) (by cases names <;> simp [Bundle.ownAtoms0, Bundle.chain0Atoms, Bundle.passAtoms])) (bytes := Bundle.five) (maxL := 1) (h (.code (Bundle.init0 cls) Bundle.five 1 none) (by cases names <;> simp [Bundle.ownAtoms0, Bundle.chain0Atoms, Bundle.passAtoms]))
    (f := g) hg (a := a) (rest := .ref a :: rest) hstack hd6
  cases Option.some.inj (hnC.symm.trans hP1m)
  have X₁ := X.noted hW₁
  obtain ⟨vm₂, X₂, st2⟩ := X₁.ctorPlainOffV hexec (g := { g with stack := .ref a :: rest }) hg hsize T L Z LZ (P1 :: Ps)
    (fun P hP => by rcases List.mem_cons.mp hP with rfl | hP; exact L1; exact hL P hP) ⟨hlink1, hlink⟩ (u0 := u0) (sen := sen) (self := a) (cell := freshCell P1.m.cls kX) (cellS := cellS)
    hcell (fun _ => by simp) (by simp) rfl rfl hsel0 hselF hcellS hneS hknownS (by rw [hkeep _ (hout' _)]; exact hu0) (by rw [hkeep _ (hout' _)]; exact hsen)
    (Takes.of_laid hk hord tyC (by rw [Y.causeType]; rfl)) (Takes.of_laid hk hord tyS (by rw [Y.stackType]; exact fits_refV_array _ u0)) (Takes.of_laid hk hord tyP (by rw [Y.suppType]; exact fits_refV_object _ sen)) Y.objLocals hskip htr [] hd6
    (by simp only [List.length_cons, hlen]; omega) (by simp only [List.length_cons, hlen]; exact hRlocals)
  have hlt : a < ((W.setVm vm₁).setVm vm₂).heap.size := (Array.getElem?_eq_some_iff.mp hcell).1
  refine ⟨(W.setVm vm₁).setVm vm₂, _, _, X₂, fun y hy => ?_, hlt, rfl, rfl, fun target hwalk => st1 _ (fun acts => ?_)⟩
  · simp only [List.mem_cons, List.not_mem_nil, or_false] at hy
    rcases hy with rfl | rfl | rfl | rfl <;> rfl
  · rw [doInvoke_state]
    exact st2 _ hwalk
end

theorem vx_c {args : Array Value} {s : State} {w : Cond} {B : List Cond} (h : w.before args s = true) (t : ∀ w ∈ B, w.before args s = true) : ∀ w' ∈ w :: B, w'.before args s = true := fun w' h' => (List.mem_cons.mp h').elim (fun e => by rw [e]; exact h) (t w')
theorem vx_n {args : Array Value} {s : State} : ∀ w ∈ ([] : List Cond), w.before args s = true := fun _ h => nomatch h
theorem vx_isRef {C n d : String} {v : Value} {A : Nat → Prop} {s : State} {args : Array Value} (h : va_Z C n d v A s s.heap) (hv : v.isRef = true) : (Cond.isRef (.static C n d)).before args s = true := by
  obtain ⟨cf, kf, fi, f, a, cell, h1, h2, h3, h4, h5, h6, h7, -⟩ := h
  have he : (Term.static C n d).eval args s none [] s = some v := by
    simp [Term.eval, State.fieldNamed?, h1, h2, h4, h5, h6, h7]
  simp only [Cond.before, Cond.holds, Cond.value, he]
  cases v <;> simp_all [Value.isRef]
theorem vx_L.word {C n d : String} {A : Nat → Prop} {s : State} {args : Array Value} (h : vx_L C n d A s s.heap) : (Cond.laysStatic C n d).before args s = true := by
  obtain ⟨c, k, i, f, a, cell, h1, h2, h3, h4, h5, h6, h7, h8, h9, -⟩ := h
  show (Cond.laysStatic C n d).holds args s none s [] = true
  exact Cond.laysStatic_of h1 h2 h3 h4 h5 h6 h7 h8 h9
theorem vx_L.kept {C n d : String} {A : Nat → Prop} {U : State} {H H1 : Heap} (h : vx_L C n d A U H) (hq : ∀ a : Nat, a < H.size → ¬ A a → H1[a]? = H[a]?) : vx_L C n d A U H1 := by
  obtain ⟨c, k, i, f, a, cell, h1, h2, h3, h4, h5, h6, h7, h8, h9, h10⟩ := h
  exact ⟨c, k, i, f, a, cell, h1, h2, h3, h4, by rw [hq a (Array.getElem?_eq_some_iff.mp h5).1 h10]; exact h5, h6, h7, h8, h9, h10⟩
theorem xw_iae {G : GL} {s : State} {as : Array Value} (hK : KS G s) (h1 : (Cond.isRef (.static Bundle.tN "UNASSIGNED_STACK" Bundle.steD)).before as s = true) (h2 : (Cond.isRef (.static Bundle.tN "SUPPRESSED_SENTINEL" Bundle.listD)).before as s = true)
    (l1 : (Cond.laysStatic Bundle.tN "UNASSIGNED_STACK" Bundle.steD).before as s = true) (l2 : (Cond.laysStatic Bundle.tN "SUPPRESSED_SENTINEL" Bundle.listD).before as s = true) : ∀ w ∈ Bundle.ownAtoms0 "QuarryCrowns" 155 "java/lang/IllegalArgumentException" ["java/lang/RuntimeException", "java/lang/Exception"], w.before as s = true :=
  show ∀ w ∈ Bundle.ownAtoms0 "QuarryCrowns" 155 "java/lang/IllegalArgumentException" ["java/lang/RuntimeException", "java/lang/Exception"], w.before as s = true from (vx_c (hK.1 _ (lw_at lw_m1 7 rfl) rfl as) (vx_c (hK.1 _ (lw_at lw_m1 143 rfl) rfl as) (vx_c (hK.1 _ (lw_at lw_m1 152 rfl) rfl as) (vx_c (hK.1 _ (lw_at lw_m1 156 rfl) rfl as) (vx_c (hK.1 _ (lw_at lw_m1 159 rfl) rfl as) (vx_c (hK.1 _ (lw_at lw_m1 161 rfl) rfl as) (vx_c (hK.1 _ (lw_at lw_m1 144 rfl) rfl as) (vx_c (hK.1 _ (lw_at lw_m1 145 rfl) rfl as) (vx_c (hK.1 _ (lw_at lw_m1 76 rfl) rfl as) (vx_c (hK.1 _ (lw_at lw_m1 77 rfl) rfl as) (vx_c (hK.1 _ (lw_at lw_m1 146 rfl) rfl as) (vx_c (hK.1 _ (lw_at lw_m1 151 rfl) rfl as) (vx_c (hK.1 _ (lw_at lw_m1 157 rfl) rfl as) (vx_c (hK.1 _ (lw_at lw_m2 157 rfl) rfl as) (vx_c (hK.1 _ (lw_at lw_m1 133 rfl) rfl as) (vx_c (hK.1 _ (lw_at lw_m2 158 rfl) rfl as) (vx_c (hK.1 _ (lw_at lw_m1 135 rfl) rfl as) (vx_c (hK.1 _ (lw_at lw_m2 159 rfl) rfl as) (vx_c (hK.1 _ (lw_at lw_m1 137 rfl) rfl as) (vx_c (hK.1 _ (lw_at lw_m1 147 rfl) rfl as) (vx_c l1 (vx_c (hK.1 _ (lw_at lw_m1 149 rfl) rfl as) (vx_c l2 (vx_c (hK.1 _ (lw_at lw_m1 139 rfl) rfl as) (vx_c (hK.1 _ (lw_at lw_m10 203 rfl) rfl as) (vx_c (hK.1 _ (lw_at lw_m10 204 rfl) rfl as) (vx_c (hK.1 _ (lw_at lw_m10 205 rfl) rfl as) (vx_c (hK.1 _ (lw_at lw_m6 110 rfl) rfl as) (vx_c (hK.1 _ (lw_at lw_m1 124 rfl) rfl as) (vx_c (hK.1 _ (lw_at lw_m6 110 rfl) rfl as) (vx_c (hK.1 _ (lw_at lw_m6 111 rfl) rfl as) (vx_c (hK.1 _ (lw_at lw_m6 112 rfl) rfl as) (vx_c (hK.1 _ (lw_at lw_m6 113 rfl) rfl as) (vx_c (hK.1 _ (lw_at lw_m1 126 rfl) rfl as) (vx_c (hK.1 _ (lw_at lw_m6 113 rfl) rfl as) (vx_c (hK.1 _ (lw_at lw_m6 114 rfl) rfl as) (vx_c (hK.1 _ (lw_at lw_m6 115 rfl) rfl as) (vx_c (hK.1 _ (lw_at lw_m1 144 rfl) rfl as) (vx_c (hK.1 _ (lw_at lw_m1 128 rfl) rfl as) (vx_c (hK.1 _ (lw_at lw_m13 134 rfl) rfl as) (vx_c (hK.1 _ (lw_at lw_m1 122 rfl) rfl as) (vx_c (hK.1 _ (lw_at lw_m1 123 rfl) rfl as) (vx_c (hK.1 _ (lw_at lw_m1 130 rfl) rfl as) (vx_c (hK.1 _ (lw_at lw_m1 131 rfl) rfl as) (vx_c (hK.1 _ (lw_at lw_m1 132 rfl) rfl as) (vx_c (hK.1 _ (lw_at lw_m1 134 rfl) rfl as) (vx_c (hK.1 _ (lw_at lw_m1 136 rfl) rfl as) (vx_c (hK.1 _ (lw_at lw_m1 138 rfl) rfl as) (vx_c h1 (vx_c h2 (vx_c (hK.1 _ (lw_at lw_m1 142 rfl) rfl as) (vx_c (hK.1 _ (lw_at lw_m1 141 rfl) rfl as) (vx_c (hK.1 _ (lw_at lw_m1 140 rfl) rfl as) vx_n)))))))))))))))))))))))))))))))))))))))))))))))))))))

theorem xw_nse {G : GL} {s : State} {as : Array Value} (hK : KS G s) (h1 : (Cond.isRef (.static Bundle.tN "UNASSIGNED_STACK" Bundle.steD)).before as s = true) (h2 : (Cond.isRef (.static Bundle.tN "SUPPRESSED_SENTINEL" Bundle.listD)).before as s = true)
    (l1 : (Cond.laysStatic Bundle.tN "UNASSIGNED_STACK" Bundle.steD).before as s = true) (l2 : (Cond.laysStatic Bundle.tN "SUPPRESSED_SENTINEL" Bundle.listD).before as s = true) : ∀ w ∈ Bundle.ownAtoms0 "QuarryCrowns" 158 "java/util/NoSuchElementException" ["java/lang/RuntimeException", "java/lang/Exception"], w.before as s = true :=
  show ∀ w ∈ Bundle.ownAtoms0 "QuarryCrowns" 158 "java/util/NoSuchElementException" ["java/lang/RuntimeException", "java/lang/Exception"], w.before as s = true from (vx_c (hK.1 _ (lw_at lw_m1 7 rfl) rfl as) (vx_c (hK.1 _ (lw_at lw_m1 143 rfl) rfl as) (vx_c (hK.1 _ (lw_at lw_m1 152 rfl) rfl as) (vx_c (hK.1 _ (lw_at lw_m1 156 rfl) rfl as) (vx_c (hK.1 _ (lw_at lw_m1 159 rfl) rfl as) (vx_c (hK.1 _ (lw_at lw_m1 161 rfl) rfl as) (vx_c (hK.1 _ (lw_at lw_m1 144 rfl) rfl as) (vx_c (hK.1 _ (lw_at lw_m1 145 rfl) rfl as) (vx_c (hK.1 _ (lw_at lw_m1 76 rfl) rfl as) (vx_c (hK.1 _ (lw_at lw_m1 77 rfl) rfl as) (vx_c (hK.1 _ (lw_at lw_m1 146 rfl) rfl as) (vx_c (hK.1 _ (lw_at lw_m1 151 rfl) rfl as) (vx_c (hK.1 _ (lw_at lw_m1 157 rfl) rfl as) (vx_c (hK.1 _ (lw_at lw_m2 157 rfl) rfl as) (vx_c (hK.1 _ (lw_at lw_m1 133 rfl) rfl as) (vx_c (hK.1 _ (lw_at lw_m2 158 rfl) rfl as) (vx_c (hK.1 _ (lw_at lw_m1 135 rfl) rfl as) (vx_c (hK.1 _ (lw_at lw_m2 159 rfl) rfl as) (vx_c (hK.1 _ (lw_at lw_m1 137 rfl) rfl as) (vx_c (hK.1 _ (lw_at lw_m1 147 rfl) rfl as) (vx_c l1 (vx_c (hK.1 _ (lw_at lw_m1 149 rfl) rfl as) (vx_c l2 (vx_c (hK.1 _ (lw_at lw_m1 139 rfl) rfl as) (vx_c (hK.1 _ (lw_at lw_m6 107 rfl) rfl as) (vx_c (hK.1 _ (lw_at lw_m6 108 rfl) rfl as) (vx_c (hK.1 _ (lw_at lw_m6 109 rfl) rfl as) (vx_c (hK.1 _ (lw_at lw_m6 110 rfl) rfl as) (vx_c (hK.1 _ (lw_at lw_m1 124 rfl) rfl as) (vx_c (hK.1 _ (lw_at lw_m6 110 rfl) rfl as) (vx_c (hK.1 _ (lw_at lw_m6 111 rfl) rfl as) (vx_c (hK.1 _ (lw_at lw_m6 112 rfl) rfl as) (vx_c (hK.1 _ (lw_at lw_m6 113 rfl) rfl as) (vx_c (hK.1 _ (lw_at lw_m1 126 rfl) rfl as) (vx_c (hK.1 _ (lw_at lw_m6 113 rfl) rfl as) (vx_c (hK.1 _ (lw_at lw_m6 114 rfl) rfl as) (vx_c (hK.1 _ (lw_at lw_m6 115 rfl) rfl as) (vx_c (hK.1 _ (lw_at lw_m1 144 rfl) rfl as) (vx_c (hK.1 _ (lw_at lw_m1 128 rfl) rfl as) (vx_c (hK.1 _ (lw_at lw_m14 166 rfl) rfl as) (vx_c (hK.1 _ (lw_at lw_m6 51 rfl) rfl as) (vx_c (hK.1 _ (lw_at lw_m6 52 rfl) rfl as) (vx_c (hK.1 _ (lw_at lw_m6 53 rfl) rfl as) (vx_c (hK.1 _ (lw_at lw_m1 155 rfl) rfl as) (vx_c (hK.1 _ (lw_at lw_m6 54 rfl) rfl as) (vx_c (hK.1 _ (lw_at lw_m6 55 rfl) rfl as) (vx_c (hK.1 _ (lw_at lw_m6 56 rfl) rfl as) (vx_c (hK.1 _ (lw_at lw_m6 57 rfl) rfl as) (vx_c h1 (vx_c h2 (vx_c (hK.1 _ (lw_at lw_m1 142 rfl) rfl as) (vx_c (hK.1 _ (lw_at lw_m1 141 rfl) rfl as) (vx_c (hK.1 _ (lw_at lw_m6 58 rfl) rfl as) vx_n)))))))))))))))))))))))))))))))))))))))))))))))))))))


/-- the words of a throw of E's own, all at once -/
def XW (own : String) (ic : Nat) (E : String) : Prop := ∀ (G : GL) (s : State) (as : Array Value), KS G s → (Cond.isRef (.static Bundle.tN "UNASSIGNED_STACK" Bundle.steD)).before as s = true → (Cond.isRef (.static Bundle.tN "SUPPRESSED_SENTINEL" Bundle.listD)).before as s = true →
  (Cond.laysStatic Bundle.tN "UNASSIGNED_STACK" Bundle.steD).before as s = true → (Cond.laysStatic Bundle.tN "SUPPRESSED_SENTINEL" Bundle.listD).before as s = true → ∀ w ∈ Bundle.ownAtoms0 own ic E ["java/lang/RuntimeException", "java/lang/Exception"], w.before as s = true
theorem xW_iae : XW "QuarryCrowns" 155 "java/lang/IllegalArgumentException" := fun _ _ _ hK h1 h2 l1 l2 => xw_iae hK h1 h2 l1 l2
theorem xW_nse : XW "QuarryCrowns" 158 "java/util/NoSuchElementException" := fun _ _ _ hK h1 h2 l1 l2 => xw_nse hK h1 h2 l1 l2
section
variable {G : GL} {d pc : Nat} {y : MI} {L st : List Value} {h : AH} {Q : Out → AH → Prop}
theorem r_newX {k ik ic : Nat} {E : String} (d0 : decode y.2.1 pc = .ok (.new ik, 3)) (d3 : decode y.2.1 (pc + 3) = .ok (.dup, 1)) (d4 : decode y.2.1 (pc + 4) = .ok (.invokespecial ic, 3)) (hE : xcAll[k]? = some E) (hfit : Bundle.fit E = true) (hx9 : XW y.1.cls ic E)
    (hcl : Cond.classLink y.1.cls ik E ∈ lw_tbl) (hini : Cond.initialized E ∈ lw_tbl) (hd : 6 ≤ d) (hst : (st.map fun v => v.category).sum ≤ 1000) (hlen : L.length = y.2.2.1) (hr1 : (G.sta 1).isRef = true) (hr2 : (G.sta 2).isRef = true) (hleft : 10 ≤ h.2.2)
    (kk : MF G d y (pc + 7) L (.ref h.2.1 :: st) (h.new (300 + k) [] 10) Q) : MF G d y pc L st h Q := by
  intro p l e R s m as below meth c H locs cells slots ls hx hl hr hL
  refine W.tight fun hz hu => ?_
  have hK := hx.2.2.2.2.2.2.2.2.1
  obtain ⟨hexec, hb, hmaxL, -, hlocks, -, -, hown, -, htr0, hRf, hRl, hRc, hRs, -⟩ := id hx
  obtain ⟨r1, r2, r3, r4, r5, r6⟩ := id hr
  intro T hT X
  subst hT
  have htr : e.platform.stackTraces = false := (show e.platform.stackTraces = l.stackTraces by rw [X.admits.platform]).trans htr0
  have Y := vx_rebase X (R' := { frames := R.frames, locals := R.locals, cells := 1, slots := 6 }) (Nat.le_refl _) (Nat.le_refl _) (by show T.heap.size - s.heap.size + 1 ≤ R.cells; omega) (by show slotSum T.heap - s.slotsUsed + 6 ≤ R.slots; omega)
  obtain ⟨s', hA'⟩ : ∃ z, z = (T.setVm s.vm).setFrames (.invoking m as :: below) := ⟨_, rfl⟩
  rw [← hA'] at Y
  have hvm : s'.vm = s.vm := by rw [hA']; rfl
  have hhp : s'.heap = T.heap := by rw [hA']; rfl
  have hW0 : s.WarmedH s'.vm := by rw [hvm]; exact State.WarmedH.refl s
  have hK' : KS G s' := hK.moved hW0
  have hk9 : ∀ a : Nat, a < G.H0.size → ¬ (fun _ => False) a → s'.heap[a]? = G.H0[a]? := fun a ha _ => by rw [hhp]; exact r3 a ha
  have hS := hK'.2.2.2.2.1
  have z1 := (hS 1 _ rfl).1.kept hk9
  have z2 := (hS 2 _ rfl).1.kept hk9
  have z3 := (hS 1 _ rfl).2.kept hk9
  have z4 := (hS 2 _ rfl).2.kept hk9
  have hws : ∀ w ∈ Bundle.ownAtoms0 y.1.cls ic E ["java/lang/RuntimeException", "java/lang/Exception"], w.before as s' = true := hx9 G s' as hK' (vx_isRef z1 hr1) (vx_isRef z2 hr2) z3.word z4.word
  have hown' : s'.vm.findClass y.1.cls = some m.cls := by rw [hvm]; exact hown
  have hins : (Cond.instantiable E 6).before as s' = true := hws _ (by simp [Bundle.ownAtoms0])
  obtain ⟨vm₁, cX, kX, hfX, hkX, -, -, X₁, st1⟩ := Y.newCold hexec (own := y.1.cls) (C := E) (index := ik) (n := 6) hown' (hK'.1 _ hcl rfl _) hins (hK'.1 _ hini rfl _)
    (g := F0 m pc ls st) rfl (by rw [hb]; exact d0) (Nat.le_refl _) (Nat.le_refl _)
  generalize hT1 : (T.setVm vm₁).pushCell { cls := cX, slots := kX.instanceTypes.map defaultValue, vm := .none } = T1 at X₁ st1
  have hcat : (Value.ref T.heap.size).category = 1 := rfl
  have hcellA : T1.heap[T.heap.size]? = some (freshCell cX kX) := by rw [← hT1]; exact State.heap_pushCell_size _ _
  have d3' : decode c.code (pc + 3) = .ok (.dup, 1) := by rw [hb]; exact d3
  obtain ⟨V, ce, L9, Z, hL9, hlt, hcl9, hvm9, st9⟩ := vx_ctorMade0 X₁ hexec htr (own := y.1.cls) (cls := E) (names := ["java/lang/RuntimeException", "java/lang/Exception"]) (ic := ic) hown' hfit (by decide) hws (fun x hx => nomatch hx) hfX hkX hcellA (by rw [hhp]; exact Nat.le_refl _)
    (g := { method := m, pc := pc + 4, locals := ls, stack := .ref T.heap.size :: .ref T.heap.size :: st, locked := none }) rfl (by rw [hmaxL, ← hlen]; exact hL.1) (rest := st) rfl
    (by rw [hb]; exact d4) (by show 2 + 3 < R.frames; omega) (by simp only [List.map_cons, List.sum_cons, hcat]; show 0 + _ + (13 * (2 + 1) + 41) ≤ R.locals; omega)
  have Z0 := Stand.forget (locs := []) Z (fun y hy => by rw [hL9 y hy, hhp]; exact Nat.le_refl _)
  obtain ⟨f1, f2⟩ := vx_frame Z0.same
  rw [hhp] at f1 f2
  have hcid : ce.cls = G.cC (300 + k) := by
    rw [hcl9]
    have h1 := hK.2.2.2.2.2.2.2.1 k _ hE
    rw [hvm] at hfX
    exact Option.some.inj (hfX.symm.trans h1)
  have hh : (V.setCell T.heap.size ce).heap[T.heap.size]? = some ce := heapAt_setCell_self (s := V) ce hlt
  subst hA'
  have X5 := vx_back9 X Y Z0
  have hrep : RepH G (h.new (300 + k) [] 10) (V.setCell T.heap.size ce).heap := by
    have g1 : ∀ q : Nat, q < T.heap.size → (V.setCell T.heap.size ce).heap[q]? = T.heap[q]? := fun q hq => f2 q hq (fun z hz => nomatch hz)
    have g2 : T.heap.size < (V.setCell T.heap.size ce).heap.size := (Array.getElem?_eq_some_iff.mp hh).1
    obtain ⟨-, -, g3, g4, g5, -⟩ := Z0.same
    have g3' : (V.setCell T.heap.size ce).heap.size ≤ T.heap.size + 1 := g3
    have g6 : (V.setCell T.heap.size ce).slotsUsed = slotSum (V.setCell T.heap.size ce).heap := book_sum X5.book
    have g7 : T.slotsUsed = slotSum T.heap := book_sum X.book
    have g4' : (V.setCell T.heap.size ce).slotsUsed = T.slotsUsed + _ := g4
    rw [g6, g7] at g4'
    refine ⟨by show h.2.1 + 1 = _; omega, by omega, fun q hq => (g1 q (by omega)).trans (r3 q hq), fun q c9 hq => ?_, by show 4 * _ + (h.2.2 - 10) ≤ _; omega, by show _ + (h.2.2 - 10) ≤ _; omega⟩
    by_cases e : q = h.2.1
    · subst e
      rw [AH.new_self] at hq
      cases hq
      exact ⟨⟨ce, by rw [r1]; exact hh, hcid, hvm9, fun h9 => absurd h9 (by omega), fun _ h9 => absurd h9 (by simp)⟩, fun _ => by omega⟩
    · rw [AH.new_ne e] at hq
      obtain ⟨⟨cl, e1, e2⟩, e3⟩ := r4 q c9 hq
      exact ⟨⟨cl, by rw [g1 q (Array.getElem?_eq_some_iff.mp e1).1]; exact e1, e2⟩, e3⟩
  obtain ⟨t, a1, b1⟩ := kk p l e R s m as below meth c (V.setCell T.heap.size ce).heap locs _ _ ls hx hl hrep hL _ rfl X5
  refine ⟨t, st1 _ ?_, b1⟩
  show Steps p.tables e below (T1.setTop { method := m, pc := pc + 3, locals := ls, stack := .ref T.heap.size :: st, locked := none }) _
  jvm_step X₁.here [X₁.here.top, hexec, d3', Value.category]
  rw [r1] at a1
  exact st9 _ a1

/-- which rows of a table catch E here: the k-th; the ones ahead don't -/
def CatchAt (y : MI) (pc hp : Nat) (E : String) : Prop := ∃ (pre suf : List (Nat × Nat × Nat × Nat)) (a b ct : Nat), y.2.2.2.2 = pre ++ (a, b, hp, ct) :: suf ∧ a ≤ pc ∧ pc < b ∧
  (∀ z ∈ pre, ¬ (z.1 ≤ pc ∧ pc < z.2.1) ∨ (z.2.2.2 ≠ 0 ∧ ∃ nm, Cond.classLink y.1.cls z.2.2.2 nm ∈ lw_tbl ∧ (E, nm) ∈ ncAll)) ∧ (ct = 0 ∨ (ct ≠ 0 ∧ ∃ nm, Cond.classLink y.1.cls ct nm ∈ lw_tbl ∧ Cond.castable E nm ∈ lw_tbl))
theorem t_catch {hp q kq : Nat} {w : Bool} {fs : List Value} {E : String} (hc : h.1 q = some (kq, w, fs)) (hE : (∃ T N, clAll[kq]? = some (E, T, N)) ∨ ∃ k, kq = 300 + k ∧ xcAll[k]? = some E) (hat : CatchAt y pc hp E)
    (kk : MF G d y hp L [.ref q] h Q) : MT G d y pc L st h q Q := by
  intro p l e R s m as below meth c H locs cells slots ls hx hl hr hL T hT X
  have hK := hx.2.2.2.2.2.2.2.2.1
  obtain ⟨⟨cell, c1, c2, c3, -⟩, -⟩ := hr.2.2.2.1 q _ hc
  have hcl : s.vm.findClass E = some cell.cls := by
    rw [c2]
    rcases hE with ⟨T9, N9, hq⟩ | ⟨k, rfl, hk⟩
    · exact (hK.2.1 kq _ hq).2.1
    · exact hK.2.2.2.2.2.2.2.1 k E hk
  have hpl : e.platform.magicAccessors = ({} : Platform).magicAccessors := by rw [X.admits.platform]
  have hown := hx.2.2.2.2.2.2.2.1
  obtain ⟨pre, suf, a, b, ct, e1, e2, e3, e4, e5⟩ := hat
  have hh := hx.2.2.2.2.2.1
  rw [e1] at hh
  obtain ⟨pre', tl', t1, t2, t3⟩ := List.map_eq_append_iff.mp hh
  obtain ⟨x, suf', t4, t5, t6⟩ := List.map_eq_cons_iff.mp t3
  subst t4
  cases t5
  obtain ⟨vm', X', st⟩ := X.thenCaughtThrough q (g := F0 m pc ls st) rfl (Steps.refl _) (by rw [hT]; exact c1) (by rw [c3]; rfl) (by obtain ⟨k9, h9, -⟩ := Vm.findClass_spec hcl; exact ⟨k9, h9⟩) pre' x suf' t1
    (fun z hz => by
      have hz9 : (z.startPc, z.endPc, z.handlerPc, z.catchType) ∈ pre := by rw [← t2]; exact List.mem_map.mpr ⟨z, hz, rfl⟩
      rcases e4 _ hz9 with h9 | ⟨hz0, nm, hl1, hn1⟩
      · refine Or.inl ?_
        simp only [covers]
        simpa using h9
      · obtain ⟨c6, hc6, hcl6⟩ := Cond.classLink_spec hown (hK.1 _ hl1 rfl as) e.platform hpl
        obtain ⟨a8, b8, h1, h2, h3⟩ := hK.2.2.2.2.2.2.1 _ hn1
        cases Option.some.inj (h1.symm.trans hcl)
        cases Option.some.inj (h2.symm.trans hc6)
        exact Or.inr ⟨hz0, _, hcl6, h3⟩)
    (by simp only [covers]; simpa using ⟨e2, e3⟩)
    (by
      rcases e5 with e5 | ⟨e50, nm, e51, e52⟩
      · exact Or.inl e5
      · obtain ⟨c3, c4, hc3, hc4, hasg⟩ := Cond.castable_spec (hK.1 _ e52 rfl as)
        cases Option.some.inj (hc3.symm.trans hcl)
        obtain ⟨c5, hc5, hcl5⟩ := Cond.classLink_spec hown (hK.1 _ e51 rfl as) e.platform hpl
        cases Option.some.inj (hc4.symm.trans hc5)
        exact Or.inr ⟨e50, c4, hcl5, hasg⟩)
  obtain ⟨t, a1, b1⟩ := kk p l e R s m as below meth c H locs cells slots ls hx hl hr hL (T.setVm vm') hT X'
  exact ⟨t, st.trans a1, b1⟩
end
