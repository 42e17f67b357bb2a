/-! tree maps: an entry comes; the empty map -/
set_option maxRecDepth 100000
def E1n (E : TE) (e : Nat) : TE := fun x j => if x = e then .null else E x j
section
variable {A B : Int} {g : TG} {G : GL} {d : Nat} {c : Nat} {F : Nat → Prop} {h0 : AH} {m : Nat} {Nd : Nat → Prop} {f : Nat → Value} {E KV : TE} {gk : Nat → Int} {C : Nat → Int32} {root : Value} {sz mo : Int32} {h : AH} {Qx : Nat → AH → Prop}
theorem TW.newE (hW : TW c F h0 m Nd f E C root sz mo h) (hw : WFh h) (hroom : 10 ≤ h.2.2) : ¬ Nd h.2.1 ∧ TW (c + 10) F h0 m (fun x => Nd x ∨ x = h.2.1) f (E1n E h.2.1) (upC C (.ref h.2.1) 0) root sz mo (h.new 24 [.null, .null, .null, .null, .null, .int 0] 10) := by
  obtain ⟨w1, w2, w3, w4, w5, w6, w7, w8⟩ := hW
  have hn : ¬ Nd h.2.1 := fun h9 => by have := hw _ _ (w5 _ h9); omega
  have hm : m ≠ h.2.1 := by have := hw _ _ w4; omega
  refine ⟨hn, w1, w2.trans0 (Chg.new hw hroom), fun x hx => ?_, by rw [AH.new_ne hm]; exact w4, fun x hx => ?_, fun x hx j hj => ?_, fun x => ?_, w8⟩
  · rcases hx with hx | hx | hx
    · exact w3 x (Or.inl hx)
    · exact w3 x (Or.inr hx)
    · subst hx
      exact Or.inr w2.1
  · by_cases e : x = h.2.1
    · subst e
      rw [AH.new_self]
      simp [tCell, E1n, upC]
    · rw [AH.new_ne e]
      rcases hx with hx | hx
      · rw [w5 x hx]
        simp [tCell, E1n, e, upC_n (show ¬ Value.ref h.2.1 = .ref x from fun e9 => by cases e9; exact e rfl)]
      · exact absurd hx e
  · unfold E1n
    by_cases e : x = h.2.1
    · rw [if_pos e]; rfl
    · rw [if_neg e]
      rcases hx with hx | hx
      · exact w6 x hx j hj
      · exact absurd hx e
  · unfold upC
    split
    · exact Or.inl rfl
    · exact w7 x
theorem s_entry {e : Nat} {kr v p : Value} {K : AH → Prop} (hW : TW c F h0 m Nd f E C root sz mo h) (he : Nd e) (hk : kr.isRef = true) (hv : v.isRef = true) (hp : p.isRef = true) (HK : ∀ h', TW c F h0 m Nd f (upE (upE (upE E e 0 kr) e 1 v) e 4 p) (upC C (.ref e) 1) root sz mo h' → K h') : MF G (d + 1) mi_TreeMapEntry_init 0 [.ref e, kr, v, p] [] h (cV K Qx) :=
  b_TreeMapEntry_init_0 hk hv hp ⟨rfl, rfl, hW.pC he (Or.inr rfl) fun h1 W1 => W1.pE he hk fun h2 W2 => W2.pE he hv fun h3 W3 => W3.pE he hp fun h4 W4 => cV_mk (HK h4 W4)⟩
/-- after an entry e came: its key k, its value v -/
def Come (E : TE) (Nd : Nat → Prop) (g : TG) (e : Nat) (k : Int) (kr v : Value) (E' : TE) (g' : TG) : Prop := ¬ Nd e ∧ g'.1 e = k ∧ E' e 0 = kr ∧ E' e 1 = v ∧ ∀ x, Nd x → g'.1 x = g.1 x ∧ E' x 0 = E x 0 ∧ E' x 1 = E x 1
theorem TT.kv01 {E1 : TE} (hT : TT c F h0 m Nd f sz mo A B gk KV E1 C root g h) {x : Nat} : E1 x 0 = KV x 0 ∧ E1 x 1 = KV x 1 := hT.2.2.2 x
theorem s_add {t s : Nat} {k : Int} {kr v : Value} {x4 : Int32} {K : AH → Prop} (hW : TW c F h0 m Nd f E C root sz mo h) (hT : TOK A B E Nd root g) (ht : Nd t) (hs : (s = 2 ∧ ¬ x4 = 0 ∧ g.2.1 t < k ∧ k < g.1 t) ∨ (s = 3 ∧ x4 = 0 ∧ g.1 t < k ∧ k < g.2.2 t)) (hn : E t s = .null) (hk : kr.isRef = true) (hv : v.isRef = true) (hroom : 10 ≤ h.2.2)
    (HK : ∀ h' E' C' root' g' sz' mo', TW (c + 10) F h0 m (fun x => Nd x ∨ x = h.2.1) f E' C' root' sz' mo' h' → TOK A B E' (fun x => Nd x ∨ x = h.2.1) root' g' → Come E Nd g h.2.1 k kr v E' g' → K h') : MF G (d + 3) mi_TreeMap_addEntry 0 [.ref m, kr, v, .ref t, .int x4, .retAddr 0] [] h (cV K Qx) := by
  refine MF.wfh fun hw => ?_
  obtain ⟨hnd, W1⟩ := hW.newE hw hroom
  have hte : t ≠ h.2.1 := fun e9 => hnd (e9 ▸ ht)
  have fin : ∀ (h5 : AH) (C5 : Nat → Int32), TW (c + 10) F h0 m (fun x => Nd x ∨ x = h.2.1) f (upE (upE (upE (upE (E1n E h.2.1) h.2.1 0 kr) h.2.1 1 v) h.2.1 4 (.ref t)) t s (.ref h.2.1)) C5 root sz mo h5 → MF G (d + 3) mi_TreeMap_addEntry 32 [.ref m, kr, v, .ref t, .int x4, .ref h.2.1] [] h5 (cV K Qx) := by
    intro h5 C5 W5
    have hTi := hT.ins (t := t) (s := s) (e := h.2.1) (kr := kr) (v := v) (c := .null) (k := k) ht hnd (by
      rcases hs with ⟨a, b, c1, c2⟩ | ⟨a, b, c1, c2⟩
      · exact Or.inl ⟨a, c1, c2⟩
      · exact Or.inr ⟨a, c1, c2⟩) hn
    have hs23 : s = 2 ∨ s = 3 := by
      rcases hs with ⟨a, -⟩ | ⟨a, -⟩
      · exact Or.inl a
      · exact Or.inr a
    have eE : upE (upE (upE (upE (E1n E h.2.1) h.2.1 0 kr) h.2.1 1 v) h.2.1 4 (.ref t)) t s (.ref h.2.1) = insE E t s h.2.1 kr v .null := by
      funext y j
      unfold upE E1n insE
      grind
    rw [eE] at W5
    refine b_TreeMap_addEntry_32 hk hv rfl rfl ⟨W5.hasK (by simp), s_fixIns (gk := (insG g t s h.2.1 k).1) (KV := insE E t s h.2.1 kr v .null) ⟨W5, hTi, rfl, fun x => ⟨rfl, rfl⟩⟩ (Or.inr rfl) fun h6 E6 C6 root6 g6 T6 => ?_⟩
    refine T6.1.gZ (T6.1.pZ fun h7 W7 => W7.gM (W7.pM fun h8 W8 => cV_mk (HK h8 _ _ _ _ _ _ W8 T6.2.1 ⟨hnd, ?_, ?_, ?_, fun x hx => ?_⟩)))
    · rw [T6.2.2.1]; exact if_pos rfl
    · rw [(T6.2.2.2 _).1]; simp [insE]
    · rw [(T6.2.2.2 _).2]; simp [insE]
    · have hxe : x ≠ h.2.1 := fun e9 => hnd (e9 ▸ hx)
      refine ⟨by rw [T6.2.2.1]; exact if_neg hxe, ?_, ?_⟩
      · rw [(T6.2.2.2 _).1]; unfold insE; grind
      · rw [(T6.2.2.2 _).2]; unfold insE; grind
  refine b_TreeMap_addEntry_0 hk hv rfl ⟨_, _, rfl, rfl, hroom, s_entry W1 (Or.inr rfl) hk hv rfl fun h2 W2 => ⟨fun e0 => dR_of ?_, fun e0 => dR_of ?_⟩⟩
  · rcases hs with ⟨-, b, -⟩ | ⟨a, b, -⟩
    · exact absurd e0 b
    · subst a
      exact W2.pE (Or.inl ht) rfl fun h5 W5 => fin h5 _ W5
  · rcases hs with ⟨a, b, -⟩ | ⟨-, b, -⟩
    · subst a
      exact W2.pE (Or.inl ht) rfl fun h5 W5 => fin h5 _ W5
    · exact absurd b e0
theorem TOK.one {e : Nat} {k : Int} {E : TE} {Nd : Nat → Prop} (hN : ∀ x, Nd x ↔ x = e) (hA : A < k) (hB : k < B) (h2 : E e 2 = .null) (h3 : E e 3 = .null) (h4 : E e 4 = .null) : TOK A B E Nd (.ref e) (fun _ => k, fun _ => A, fun _ => B) := by
  refine ⟨Or.inr ⟨e, rfl, (hN e).mpr rfl, h4, rfl, rfl⟩, fun x hx => ?_⟩
  have := (hN x).mp hx
  subst this
  exact ⟨Int.le_refl _, hA, hB, Int.le_refl _, Or.inl h2, Or.inl h3, Or.inl ⟨h4, rfl⟩⟩
theorem s_addFirst {k : Int} {kr v : Value} {K : AH → Prop} (hW : TW c F h0 m Nd f E C .null sz mo h) (hN : ∀ x, ¬ Nd x) (hA : A < k) (hB : k < B) (hk : EI h kr k) (hv : v.isRef = true) (hroom : 10 ≤ h.2.2)
    (HK : ∀ h' E' C' root' g' sz' mo' e, h.2.1 ≤ e → TW (c + 10) F h0 m (fun x => Nd x ∨ x = e) f E' C' root' sz' mo' h' → TOK A B E' (fun x => Nd x ∨ x = e) root' g' → Come E Nd g e k kr v E' g' → K h') : MF G 5 mi_TreeMap_addEntryToEmptyMap 0 [.ref m, kr, v] [] h (cV K Qx) := by
  obtain ⟨kq, hkq⟩ : ∃ q, kr = .ref q := by obtain ⟨m', -, -, r, e, -⟩ := hk; exact ⟨r, e⟩
  subst hkq
  have hcast : isC h kq "java/lang/Comparable" := by
    obtain ⟨m', -, -, r, e, h1⟩ := hk
    cases e
    exact ⟨13, _, _, h1, ck_13_Comparable⟩
  refine MF.wfh fun hw => b_TreeMap_addEntryToEmptyMap_0 rfl hv ⟨hW.hasK (by simp), b_TreeMap_compare_0 rfl rfl (hW.g2 ⟨fun _ => ⟨fun q e => (by cases e; exact hcast), dR_of (s_cmpI hk hk fun r _ _ => cI_mk ?_)⟩, fun q e => (by cases e)⟩)⟩
  obtain ⟨hnd, W1⟩ := hW.newE hw hroom
  refine ⟨_, _, rfl, rfl, hroom, s_entry W1 (Or.inr rfl) rfl hv rfl fun h2 W2 => W2.pR rfl fun h3 W3 => W3.pZ fun h4 W4 => W4.gM (W4.pM fun h5 W5 => cV_mk ?_)⟩
  refine HK h5 _ _ _ (fun _ => k, fun _ => A, fun _ => B) _ _ h.2.1 (Nat.le_refl _) W5 (TOK.one (e := h.2.1) (fun x => ⟨fun hx => ?_, fun hx => Or.inr hx⟩) hA hB ?_ ?_ ?_) ⟨hnd, rfl, ?_, ?_, fun x hx => absurd hx (hN x)⟩
  · rcases hx with hx | hx
    · exact absurd hx (hN x)
    · exact hx
  · simp [upE, E1n]
  · simp [upE, E1n]
  · simp [upE]
  · simp [upE]
  · simp [upE]
end
section
variable {G : GL} {d : Nat} {h : AH} {m : Nat} {mv : Nat → Option Nat} {F : Nat → Prop} {Qx : Nat → AH → Prop} {K : Value → AH → Prop}
theorem s_put123 {c : Nat} {h0 : AH} {Nd : Nat → Prop} {f : Nat → Value} {E : TE} {C : Nat → Int32} {root : Value} {sz mo : Int32} {g : TG} {A B k : Int} {kr v : Value} (hv : v.isRef = true) (hroom : 10 ≤ h.2.2) (hW : TW c F h0 m Nd f E C root sz mo h) (hT : TOK A B E Nd root g) (hKy : KyO h E Nd g.1) (hk : EI h kr k) (hno : ∀ x, Nd x → ¬ g.1 x = k)
    (HK : ∀ h' E' C' root' g' sz' mo' e, h.2.1 ≤ e → TW (c + 10) F h0 m (fun x => Nd x ∨ x = e) f E' C' root' sz' mo' h' → TOK A B E' (fun x => Nd x ∨ x = e) root' g' → Come E Nd g e k kr v E' g' → K .null h') : ∀ (n : Nat) {x : Nat} {x5 : Value} {u6 u9 : Value}, Nd x → g.2.1 x < k → k < g.2.2 x → g.2.2 x - g.2.1 x < n → MF G 4 mi_TreeMap_put_2 123 [.ref m, kr, v, .int 1, .ref x, x5, u6, .null, kr, u9] [] h (cR K Qx) := by
  intro n
  induction n with
  | zero =>
    intro x x5 u6 u9 hx h1 h2 hn
    omega
  | succ n ih =>
    intro x x5 u6 u9 hx hlo hhi hn
    obtain ⟨kq, hkq⟩ : ∃ q, kr = .ref q := by obtain ⟨m', -, -, r, e, -⟩ := hk; exact ⟨r, e⟩
    subst hkq
    obtain ⟨-, b1, b2, -⟩ := hT.2 x hx
    have last : ∀ (s : Nat) (x4 y4 : Int32), E x s = .null → ((s = 2 ∧ ¬ x4 = 0 ∧ g.2.1 x < k ∧ k < g.1 x) ∨ (s = 3 ∧ x4 = 0 ∧ g.1 x < k ∧ k < g.2.2 x)) → MF G 4 mi_TreeMap_put_2 216 [.ref m, .ref kq, v, .int 1, .null, .int y4, .ref x, .null, .ref kq, u9] [.int x4, .ref x, v, .ref kq, .ref m] h (cR K Qx) := fun s x4 y4 hs1 hs2 =>
      b_TreeMap_put_2_216 rfl hv rfl rfl rfl rfl rfl hv rfl (dR_of ⟨hW.hasK (by simp), s_add hW hT hx hs2 hs1 rfl hv hroom fun h' E' C' root' g' sz' mo' W' T' Cm => cR_mk rfl (HK h' E' C' root' g' sz' mo' _ (Nat.le_refl _) W' T' Cm)⟩)
    refine b_TreeMap_put_2_123 rfl hv rfl rfl rfl (dR_of (hW.gE hx rfl (dR_of (s_cmpI hk (hKy x hx) fun r hlt hgt => ⟨fun h0r => ⟨fun hr0 => ?_, fun hr0 => ?_⟩, fun h0r => ?_⟩))))
    · exfalso
      have a3 : ¬ k < g.1 x := fun h9 => Int32.not_lt.mpr h0r (hlt.mpr h9)
      have a4 : ¬ g.1 x < k := fun h9 => Int32.not_lt.mpr hr0 (hgt.mpr h9)
      exact hno x hx (by omega)
    · have a1 := hgt.mp (Int32.not_le.mp hr0)
      refine hW.gE hx rfl ⟨fun e => ⟨fun _ => last 3 0 r e (Or.inr ⟨rfl, rfl, a1, hhi⟩), fun h9 => absurd h0r h9⟩, fun y e => ?_⟩
      obtain ⟨y1, -, y3, y4⟩ := (hT.child hx).2 e
      exact ih y1 (by omega) (by omega) (by omega)
    · have a1 := hlt.mp (Int32.not_le.mp h0r)
      refine hW.gE hx rfl ⟨fun e => ⟨fun h9 => absurd h9 h0r, fun _ => last 2 1 r e (Or.inl ⟨rfl, by decide, hlo, a1⟩)⟩, fun y e => ?_⟩
      obtain ⟨y1, -, y3, y4⟩ := (hT.child hx).1 e
      exact ih y1 (by omega) (by omega) (by omega)
theorem s_pmPut {kv : Value} {k a : Nat} (hp : PM h m mv F) (hk : EI h kv k) (hk100 : k < 100) (hno : mv k = none) (hroom : 10 ≤ h.2.2) (HK : ∀ h' F', Chg 10 F h h' → PM h' m (updM mv k (some a)) F' → Fgr h F F' → K .null h') : MF G (d + 7) mi_TreeMap_put 0 [.ref m, kv, .ref a] [] h (cR K Qx) := by
  refine MF.wfh fun hw => MF.up (d := 7) (by omega) ?_
  obtain ⟨Nd, f, E, C, root, sz, mo, g, h1, h2, h3, h4, h5, h6⟩ := hp
  have W := h1.tw hw (F := F) fun x hx => (h6 x).mpr hx
  obtain ⟨kq, hkq⟩ : ∃ q, kv = .ref q := by obtain ⟨m', -, -, r, e, -⟩ := hk; exact ⟨r, e⟩
  subst hkq
  have hcast : isC h kq "java/lang/Comparable" := by
    obtain ⟨m', -, -, r, e, h1⟩ := hk
    cases e
    exact ⟨13, _, _, h1, ck_13_Comparable⟩
  have hnoN : ∀ x, Nd x → ¬ g.1 x = (k : Int) := fun x hx e => by
    obtain ⟨j, b, b1, b2, b3, b4⟩ := h4.1 x hx
    have : j = k := by omega
    subst this
    rw [hno] at b4; cases b4
  have fin : ∀ h' E' C' root' g' sz' mo' e, h.2.1 ≤ e → TW (0 + 10) F h m (fun x => Nd x ∨ x = e) f E' C' root' sz' mo' h' → TOK (-1) 100 E' (fun x => Nd x ∨ x = e) root' g' → Come E Nd g e k (.ref kq) (.ref a) E' g' → K .null h' := by
    intro h' E' C' root' g' sz' mo' e he W' T' Cm
    obtain ⟨c1, c2, c3, c4, c5⟩ := Cm
    refine HK h' (fun x => x = m ∨ (Nd x ∨ x = e)) (W'.2.1.mono (by omega) fun q h9 => h9) ⟨fun x => Nd x ∨ x = e, f, E', C', root', sz', mo', g', W'.tc, T', fun y hy => ?_, ⟨fun y hy => ?_, fun j b hj => ?_⟩, h5.chg W'.2.1, fun x => Iff.rfl⟩ fun z hz => ?_
    · rcases hy with hy | rfl
      · obtain ⟨d1, d2, d3⟩ := c5 y hy
        rw [d1, d2]; exact (h3 y hy).chg W'.2.1
      · rw [c2, c3]; exact hk.chg W'.2.1
    · rcases hy with hy | rfl
      · obtain ⟨d1, d2, d3⟩ := c5 y hy
        obtain ⟨j, b, b1, b2, b3, b4⟩ := h4.1 y hy
        refine ⟨j, b, b1, d1.trans b2, d3.trans b3, ?_⟩
        rw [updM_n]
        · exact b4
        · intro e9
          subst e9
          rw [hno] at b4; cases b4
      · exact ⟨k, a, hk100, c2, c4, updM_s rfl⟩
    · by_cases e9 : j = k
      · rw [updM_s e9] at hj
        cases hj
        subst e9
        exact ⟨e, Or.inr rfl, c2, c4⟩
      · rw [updM_n e9] at hj
        obtain ⟨z, z1, z2, z3⟩ := h4.2 j b hj
        obtain ⟨d1, d2, d3⟩ := c5 z z1
        exact ⟨z, Or.inl z1, d1.trans z2, d3.trans z3⟩
    · rcases hz with hz | hz | hz
      · exact Or.inl ((h6 z).mpr (Or.inl hz))
      · exact Or.inl ((h6 z).mpr (Or.inr hz))
      · exact Or.inr (by rw [hz]; exact he)
  refine b_TreeMap_put_0 rfl rfl ⟨W.hasK (by simp), b_TreeMap_put_2_0 rfl rfl (W.gT ⟨fun e => ⟨W.hasK (by simp), ?_⟩, fun q e => W.g2 ⟨fun _ => b_Objects_requireNonNull_0 (d := 4) rfl ⟨fun e => (by cases e), fun q' e' => ?_⟩, fun q9 e9 => (by cases e9)⟩⟩)⟩
  · subst e
    refine s_addFirst (A := -1) (B := 100) (g := g) (v := .ref a) W (fun x hx => by obtain ⟨r, r1, -⟩ := h2.rootS hx; cases r1) (by omega) (by omega) hk rfl hroom fun h' E' C' root' g' sz' mo' e he W' T' Cm => ?_
    exact cR_mk rfl (cR_mk rfl (fin h' E' C' root' g' sz' mo' e he W' T' Cm))
  · cases e'
    subst e
    refine cR_mk rfl ⟨fun q9 e9 => (by cases e9; exact hcast), ?_⟩
    have hr := h2.rootV.ref
    obtain ⟨r, r1, r2, r3, r4, r5⟩ := h2.rootS hr
    cases r1
    exact MF.up (d := 4) (by omega) (s_put123 rfl hroom W h2 h3 hk hnoN (fun h' E' C' root' g' sz' mo' e he W' T' Cm => cR_mk rfl (fin h' E' C' root' g' sz' mo' e he W' T' Cm)) 102 r2 (by omega) (by omega) (by omega))
theorem s_pmInit {K : AH → Prop} (hc : h.1 m = some (23, true, [.null, .null, .null, .null, .int 0, .int 0, .null, .null, .null])) (HK : ∀ h', Chg 0 (fun q => q = m) h h' → PM h' m (fun _ => none) (fun q => q = m) → K h') : MF G (d + 2) mi_TreeMap_init 0 [.ref m] [] h (cV K Qx) := by
  refine MF.wfh fun hw => ?_
  have hTC : TC h m (fun _ => False) (fun _ => .null) (fun _ _ => .null) (fun _ => 0) .null 0 0 := ⟨hc, fun _ h9 => h9.elim, fun _ h9 => h9.elim, fun _ => Or.inl rfl, rfl⟩
  have W := hTC.tw hw (F := fun q => q = m) fun x hx => hx.elim id False.elim
  refine b_TreeMap_init_0 (b_AbstractMap_init_0 (cV_mk (W.pZ fun h1 W1 => W1.pM fun h2 W2 => ?_)))
  have hP := W2.putM (fs := (mCell (fun _ => .null) .null 0 0).set 2 .null)
  refine pF_of W2.tc.1 (by simp) (by show 2 < 9; omega) (cV_mk (HK _ hP ⟨fun _ => False, fun _ => .null, fun _ _ => .null, fun _ => 0, .null, 0, 0, (fun _ => 0, fun _ => 0, fun _ => 0), ⟨AH.put_self W2.tc.1, fun _ h9 => h9.elim, fun _ h9 => h9.elim, fun _ => Or.inl rfl, rfl⟩, ⟨Or.inl ⟨rfl, fun _ h9 => h9⟩, fun _ h9 => h9.elim⟩, fun _ h9 => h9.elim, ⟨fun _ h9 => h9.elim, fun k a h9 => by cases h9⟩, ⟨Or.inl rfl, Or.inl rfl⟩, fun x => ⟨fun hx => Or.inl hx, fun hx => hx.elim id False.elim⟩⟩))
end
