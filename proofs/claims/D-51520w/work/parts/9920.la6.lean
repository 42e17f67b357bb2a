/-! hash maps: an entry comes -/
set_option maxRecDepth 100000
theorem bin_app {es : List HE} {e : HE} {b : Nat} : bin (es ++ [e]) b = bin es b ++ (if bnI (sph e.2.2.1) = b then [e] else []) := by
  unfold bin
  rw [List.filter_append]
  congr 1
  by_cases he : bnI (sph e.2.2.1) = b
  · rw [if_pos he, List.filter_cons_of_pos (by simp [he])]; rfl
  · rw [if_neg he, List.filter_cons_of_neg (by simp [he])]; rfl
theorem node_inj {es : List HE} (hn : (es.map fun e => e.1).Nodup) {x y : HE} (hx : x ∈ es) (hy : y ∈ es) (he : x.1 = y.1) : x = y := by
  obtain ⟨i, hi⟩ := List.mem_iff_getElem?.mp hx
  obtain ⟨j, hj⟩ := List.mem_iff_getElem?.mp hy
  have hil := (List.getElem?_eq_some_iff.mp hi).1
  have h1 : (es.map fun e => e.1)[i]? = some x.1 := by rw [List.getElem?_map, hi]; rfl
  have h2 : (es.map fun e => e.1)[j]? = some y.1 := by rw [List.getElem?_map, hj]; rfl
  have := (List.getElem?_inj (by rw [List.length_map]; exact hil) hn).mp (h1.trans (by rw [he]; exact h2.symm))
  subst this
  rw [hi] at hj
  exact Option.some.inj hj
theorem HMh.ins {h h' : AH} {m tb cc : Nat} {es : List HE} {F : Nat → Prop} {mc mc' thr : Int32} {sl : List Value} {e : HE} (hp : HMh h m es F) (hm : h.1 m = some (21, true, [.null, .null, .ref tb, .null, .int (i32 es.length), .int mc, .int thr, .float 1061158912])) (htb : h.1 tb = some (106, true, sl)) (hc : Chg cc F h h') (hm' : h'.1 m = some (21, true, [.null, .null, .ref tb, .null, .int (i32 (es.length + 1)), .int mc', .int 12, .float 1061158912])) (hnew : h'.1 e.1 = some (22, true, [.int (sph e.2.2.1), .ref e.2.1, .ref e.2.2.2, .null])) (hfresh : ∀ x, x ∈ es → x.1 ≠ e.1) (hk : StrO h' e.2.1 e.2.2.1) (hv : IntO h' (.ref e.2.2.2) (i32 es.length)) (hl : e.2.2.1.length < 1000000) (h5 : es.length < 5)
    (hcase : (bin es (bnI (sph e.2.2.1)) = [] ∧ h'.1 tb = some (106, true, sl.set (bnI (sph e.2.2.1)) (.ref e.1)) ∧ ∀ x, x ∈ es → h'.1 x.1 = h.1 x.1) ∨ ∃ c l, bin es (bnI (sph e.2.2.1)) = c ++ [l] ∧ h'.1 tb = some (106, true, sl) ∧ h'.1 l.1 = some (22, true, [.int (sph l.2.2.1), .ref l.2.1, .ref l.2.2.2, .ref e.1]) ∧ ∀ x, x ∈ es → x.1 ≠ l.1 → h'.1 x.1 = h.1 x.1) :
    HMh h' m (es ++ [e]) (fun x => x = m ∨ x = tb ∨ ∃ e', e' ∈ es ++ [e] ∧ x = e'.1) := by
  obtain ⟨tab, mc0, thr0, h1, h2, h3, h4, h6, h7⟩ := hp
  rw [hm] at h1
  cases h1
  rcases h2 with ⟨g1, -⟩ | ⟨tb', sl', g1, g2, g3, g4, g5⟩
  · cases g1
  cases g1
  rw [htb] at g3
  cases g3
  have hlen : (es ++ [e]).length = es.length + 1 := by simp
  refine ⟨.ref tb, mc', 12, by rw [hlen]; exact hm', Or.inr ?_, fun i x hx => ?_, by omega, ?_, fun x => ?_⟩
  · rcases hcase with ⟨b1, b2, b3⟩ | ⟨c, l, b1, b2, b3, b4⟩
    · refine ⟨tb, _, rfl, rfl, b2, by rw [List.length_set]; exact g4, fun b v hb => ?_⟩
      rw [bin_app]
      by_cases eb : bnI (sph e.2.2.1) = b
      · rw [if_pos eb, ← eb, b1]
        rw [← eb, List.getElem?_set_self (by rw [g4]; exact bn_lt _)] at hb
        cases hb
        exact ⟨rfl, .null, rfl, hnew, rfl⟩
      · rw [if_neg eb, List.append_nil]
        rw [List.getElem?_set_ne eb] at hb
        exact (g5 b v hb).cong fun x hx => b3 x (List.mem_filter.mp hx).1
    · refine ⟨tb, _, rfl, rfl, b2, g4, fun b v hb => ?_⟩
      have hlm : l ∈ bin es (bnI (sph e.2.2.1)) := by rw [b1]; simp
      obtain ⟨hl1, hl2⟩ := List.mem_filter.mp hlm
      have hl2' : bnI (sph l.2.2.1) = bnI (sph e.2.2.1) := by simpa using hl2
      rw [bin_app]
      by_cases eb : bnI (sph e.2.2.1) = b
      · rw [if_pos eb, ← eb, b1]
        rw [← eb] at hb
        have hch := g5 _ v hb
        have hnd : (bin es (bnI (sph e.2.2.1))).Nodup := by
          refine List.Pairwise.filter _ ?_
          exact (List.pairwise_map.mp h6).imp fun h9 e9 => h9 (by rw [e9])
        rw [b1] at hch hnd
        refine Chn.app hnew b3 hch fun x hx => b4 x ?_ fun e9 => ?_
        · have : x ∈ bin es (bnI (sph e.2.2.1)) := by rw [b1]; exact List.mem_append_left _ hx
          exact (List.mem_filter.mp this).1
        · have hxm : x ∈ es := by
            have : x ∈ bin es (bnI (sph e.2.2.1)) := by rw [b1]; exact List.mem_append_left _ hx
            exact (List.mem_filter.mp this).1
          have := node_inj h6 hxm hl1 e9
          subst this
          rw [List.nodup_append] at hnd
          exact hnd.2.2 x hx x (by simp) rfl
      · rw [if_neg eb, List.append_nil]
        refine (g5 b v hb).cong fun x hx => ?_
        obtain ⟨hx1, hx2⟩ := List.mem_filter.mp hx
        have hx2' : bnI (sph x.2.2.1) = b := by simpa using hx2
        refine b4 x hx1 fun e9 => ?_
        have := node_inj h6 hx1 hl1 e9
        subst this
        exact eb (hl2'.symm.trans hx2')
  · by_cases ei : i < es.length
    · rw [List.getElem?_append_left ei] at hx
      obtain ⟨k1, k2, k3⟩ := h3 i x hx
      exact ⟨k1.chg hc, k2.chg hc, k3⟩
    · have hil := (List.getElem?_eq_some_iff.mp hx).1
      have : i = es.length := by omega
      subst this
      rw [List.getElem?_append_right (Nat.le_refl _), Nat.sub_self] at hx
      cases hx
      exact ⟨hk, hv, hl⟩
  · rw [List.map_append, List.nodup_append]
    refine ⟨h6, by simp, fun a ha b hb e9 => ?_⟩
    obtain ⟨x, hx, rfl⟩ := List.mem_map.mp ha
    simp at hb
    exact hfresh x hx (e9.trans hb)
  · constructor
    · rintro (h9 | h9 | h9)
      · exact Or.inl h9
      · exact Or.inr (Or.inl (by rw [h9]))
      · exact Or.inr (Or.inr h9)
    · rintro (h9 | h9 | h9)
      · exact Or.inl h9
      · exact Or.inr (Or.inl (by cases h9; rfl))
      · exact Or.inr (Or.inr h9)
section
variable {G : GL} {d : Nat} {h : AH} {m q : Nat} {es : List HE} {bs : List Int32} {F : Nat → Prop} {Qx : Nat → AH → Prop}
/-- size and count told behind an insertion -/
theorem s_hm259 {tb n : Nat} {mc x1 x8 x9 : Int32} {r2 r3 r6 r7 u10 u11 u12 : Value} (g2 : r2.isRef = true) (g3 : r3.isRef = true) (g6 : r6.isRef = true) (g7 : r7.isRef = true) {K : Value → AH → Prop} (hn : n < 5) (hm : h.1 m = some (21, true, [.null, .null, .ref tb, .null, .int (i32 n), .int mc, .int 12, .float 1061158912])) (HK : ∀ h', h'.1 m = some (21, true, [.null, .null, .ref tb, .null, .int (i32 (n + 1)), .int (mc + 1), .int 12, .float 1061158912]) → (∀ x, x ≠ m → h'.1 x = h.1 x) → Chg 0 (fun x => x = m) h h' → h'.2 = h.2 → K .null h') : MF G (d + 1) mi_HashMap_putVal 259 [.ref m, .int x1, r2, r3, .int 0, .int 1, r6, r7, .int x8, .int x9, u10, u11, u12] [] h (cR K Qx) := by
  have m1 := AH.put_self (fs' := [.null, .null, .ref tb, .null, .int (i32 n), .int (mc + 1), .int 12, .float 1061158912]) hm
  have m2 := AH.put_self (fs' := [.null, .null, .ref tb, .null, .int (i32 (n + 1)), .int (mc + 1), .int 12, .float 1061158912]) m1
  have c1 := Chg.put (F := fun x => x = m) (fs' := [.null, .null, .ref tb, .null, .int (i32 n), .int (mc + 1), .int 12, .float 1061158912]) hm (by decide) rfl
  have c2 := Chg.put (F := fun x => x = m) (fs' := [.null, .null, .ref tb, .null, .int (i32 (n + 1)), .int (mc + 1), .int 12, .float 1061158912]) m1 (by decide) rfl
  refine b_HashMap_putVal_259 g2 g3 g6 g7 (gI_of hm (by simp) rfl (pF_of hm (by simp) (by simp) (gI_of m1 (by simp) rfl (pF_of m1 (by simp) (by simp) ?_))))
  rw [i32_succ]
  refine gI_of m2 (by simp) rfl ⟨fun _ => b_HashMap_putVal_292 g2 g3 g6 g7 ⟨hasKs_of m2 (by simp), b_HashMap_afterNodeInsertion_0 (cV_mk (cR_mk rfl (HK _ m2 (fun x hx => by rw [AH.put_ne hx, AH.put_ne hx]) (c1.same c2) rfl)))⟩, fun hn9 => absurd ((i32_le (a := n + 1) (b := 12) (by omega) (by omega)).mpr (by omega)) hn9⟩
/-- a node made -/
theorem s_newNode {x1 : Int32} {r2 r3 : Value} {K : Value → AH → Prop} (hw : WFh h) (g2 : r2.isRef = true) (g3 : r3.isRef = true) (hroom : 8 ≤ h.2.2) (HK : ∀ h', h'.1 h.2.1 = some (22, true, [.int x1, r2, r3, .null]) → (∀ x, x ≠ h.2.1 → h'.1 x = h.1 x) → Chg 8 F0s h h' → h'.2.1 = h.2.1 + 1 → K (.ref h.2.1) h') : MF G (d + 2) mi_HashMap_newNode 0 [.ref m, .int x1, r2, r3, .null] [] h (cR K Qx) := by
  have n0 : (h.new 22 [.int 0, .null, .null, .null] 8).1 h.2.1 = some (22, true, [.int 0, .null, .null, .null]) := AH.new_self
  have n1 := AH.put_self (fs' := [.int x1, .null, .null, .null]) n0
  have n2 := AH.put_self (fs' := [.int x1, r2, .null, .null]) n1
  have n3 := AH.put_self (fs' := [.int x1, r2, r3, .null]) n2
  have n4 := AH.put_self (fs' := [.int x1, r2, r3, .null]) n3
  have c0 := Chg.new (kd := 22) (fs := [.int 0, .null, .null, .null]) hw hroom
  have c1 := Chg.put (F := fun x => x = h.2.1) (fs' := [.int x1, .null, .null, .null]) n0 (by decide) rfl
  have c2 := Chg.put (F := fun x => x = h.2.1) (fs' := [.int x1, r2, .null, .null]) n1 (by decide) rfl
  have c3 := Chg.put (F := fun x => x = h.2.1) (fs' := [.int x1, r2, r3, .null]) n2 (by decide) rfl
  have c4 := Chg.put (F := fun x => x = h.2.1) (fs' := [.int x1, r2, r3, .null]) n3 (by decide) rfl
  refine b_HashMap_newNode_0 g2 g3 rfl ⟨_, _, rfl, rfl, hroom, b_HashMapNode_init_0 g2 g3 rfl (pF_of n0 (by simp) (by simp) (pF_of n1 (by simp) (by simp) (pF_of n2 (by simp) (by simp) (pF_of n3 (by simp) (by simp) (cV_mk (cR_mk rfl (HK _ n4 (fun x hx => ?_) ?_ rfl)))))))⟩
  · rw [AH.put_ne hx, AH.put_ne hx, AH.put_ne hx, AH.put_ne hx, AH.new_ne hx]
  · exact c0.trans (((c1.same c2).same c3).same c4) fun x y e h9 => by have := hw _ _ e; omega
/-- along a chain to its end -/
theorem s_hm134 {Q : Out → AH → Prop} (hK : SK G) (hs : StrO h q bs) (hl : bs.length < 1000000) {r3 r6 : Value} {x8 x9 : Int32} (g3 : r3.isRef = true) (g6 : r6.isRef = true) : ∀ (t : List HE) (e : HE) (j : Nat) (u10 u11 : Value), Chn h (.ref e.1) (e :: t) → (∀ x, x ∈ e :: t → StrO h x.2.1 x.2.2.1 ∧ x.2.2.1.length < 1000000) → (∀ x, x ∈ t → ¬ x.2.2.1 = bs) → j + t.length ≤ 5 →
    (∀ l j' u10 u11, (∃ c', e :: t = c' ++ [l]) → j' ≤ 5 → h.1 l.1 = some (22, true, [.int (sph l.2.2.1), .ref l.2.1, .ref l.2.2.2, .null]) → MF G (d + 2) mi_HashMap_putVal 134 [.ref m, .int (sph bs), .ref q, r3, .int 0, .int 1, r6, .ref l.1, .int x8, .int x9, u10, u11, .int (i32 j')] [] h Q) →
    MF G (d + 2) mi_HashMap_putVal 134 [.ref m, .int (sph bs), .ref q, r3, .int 0, .int 1, r6, .ref e.1, .int x8, .int x9, u10, u11, .int (i32 j)] [] h Q := by
  intro t
  induction t with
  | nil =>
    intro e j u10 u11 hc hst hno hj HL
    obtain ⟨-, nx, n1, n2, n3⟩ := hc
    have n3' : nx = .null := n3
    subst n3'
    exact HL e j u10 u11 ⟨[], rfl⟩ (by omega) n2
  | cons f t ih =>
    intro e j u10 u11 hc hst hno hj HL
    obtain ⟨-, nx, n1, n2, n3⟩ := hc
    have n4 := n3.1
    subst n4
    have hnf := hno f List.mem_cons_self
    obtain ⟨k1, k2⟩ := hst f (by simp)
    have n30 := n3
    obtain ⟨-, nf, f1, f2, f3⟩ := n3
    have hrec : ∀ u, MF G (d + 2) mi_HashMap_putVal 134 [.ref m, .int (sph bs), .ref q, r3, .int 0, .int 1, r6, .ref f.1, .int x8, .int x9, .ref f.1, u, .int (i32 j + 1)] [] h Q := by
      intro u
      rw [i32_succ]
      have hj' : j + (t.length + 1) ≤ 5 := hj
      refine ih f (j + 1) _ u n30 (fun x hx => hst x (List.mem_cons_of_mem _ hx)) (fun x hx => hno x (List.mem_cons_of_mem _ hx)) (by omega) fun l j' u10 u11 hlc hj2 hlx => HL l j' u10 u11 ?_ hj2 hlx
      obtain ⟨c', hc'⟩ := hlc
      exact ⟨e :: c', by rw [hc']; rfl⟩
    refine b_HashMap_putVal_134 rfl g3 g6 rfl (dR_of (gR_of n2 (by simp) rfl rfl ⟨(fun e9 => by cases e9), fun q3 e9 => ?_⟩))
    cases e9
    refine gI_of f2 (by simp) rfl ⟨fun _ => hrec _, fun _ => gR_of f2 (by simp) rfl rfl ⟨fun hv => ?_, fun _ => ⟨(fun e8 => by cases e8), fun q12 e8 => ?_⟩⟩⟩
    · have e9 : f.2.1 = q := by cases hv; rfl
      rw [e9] at k1
      exact absurd (k1.inj hs) hnf
    · cases e8
      exact vl_strEq hK hs k1 hl k2 ⟨fun _ => hrec _, fun hnz => absurd (of_decide_eq_true (b01_1 hnz)).symm hnf⟩
theorem s_hmPut29 {tb va : Nat} {mc thr : Int32} {sl : List Value} {u7 u9 u10 u11 u12 : Value} {K : Value → AH → Prop} (hK : SK G) (hp : HMh h m es F) (hm : h.1 m = some (21, true, [.null, .null, .ref tb, .null, .int (i32 es.length), .int mc, .int thr, .float 1061158912])) (htb : h.1 tb = some (106, true, sl)) (hs : StrO h q bs) (hl : bs.length < 1000000) (hno : hmF es bs = none) (h5 : es.length < 5) (hv : IntO h (.ref va) (i32 es.length)) (hroom : 8 ≤ h.2.2) (HK : ∀ h' n F', HMh h' m (es ++ [(n, q, bs, va)]) F' → Chg 8 F h h' → Fgr h F F' → K .null h') : MF G (d + 4) mi_HashMap_putVal 29 [.ref m, .int (sph bs), .ref q, .ref va, .int 0, .int 1, .ref tb, u7, .int (i32 16), u9, u10, u11, u12] [] h (cR K Qx) := by
  refine MF.wfh fun hw => ?_
  have hp0 := hp
  have hlow := hp0.low hw
  obtain ⟨tab, mc0, thr0, h1, h2, h3, h4, h6, h7⟩ := hp
  rw [hm] at h1
  cases h1
  rcases h2 with ⟨g1, -⟩ | ⟨tb', sl', g1, g2, g3, g4, g5⟩
  · cases g1
  cases g1
  subst g2
  rw [htb] at g3
  cases g3
  have hFm : F m := (h7 m).mpr (Or.inl rfl)
  have hFt : F tb := (h7 tb).mpr (Or.inr (Or.inl rfl))
  have hFe : ∀ x, x ∈ es → F x.1 := fun x hx => (h7 _).mpr (Or.inr (Or.inr ⟨x, hx, rfl⟩))
  have hml := hlow m hFm
  have htl := hlow tb hFt
  have hel : ∀ x, x ∈ es → x.1 < h.2.1 := fun x hx => hlow _ (hFe x hx)
  have hmt : m ≠ tb := fun e => by subst e; rw [hm] at htb; cases htb
  have hme : ∀ x, x ∈ es → x.1 ≠ m ∧ x.1 ≠ tb := fun x hx => by
    obtain ⟨nx, hx2⟩ := hp0.node x hx
    exact ⟨fun e => (by rw [e, hm] at hx2; cases hx2), fun e => (by rw [e, htb] at hx2; cases hx2)⟩
  have hbl : bnI (sph bs) < sl.length := by rw [g4]; exact bn_lt _
  have hbr := bn_lt (sph bs)
  have hb := List.getElem?_eq_getElem hbl
  have hch := g5 _ _ hb
  generalize sl[bnI (sph bs)] = v at hb hch
  have hnoB : ∀ x, x ∈ es → ¬ x.2.2.1 = bs := fun x hx e9 => by
    have := List.find?_eq_none.mp hno x hx
    simp [e9] at this
  have hst : ∀ x, x ∈ bin es (bnI (sph bs)) → StrO h x.2.1 x.2.2.1 ∧ x.2.2.1.length < 1000000 := fun x hx => by
    obtain ⟨i, hi⟩ := List.mem_iff_getElem?.mp (List.mem_filter.mp hx).1
    exact ⟨(h3 i x hi).1, (h3 i x hi).2.2⟩
  have hbm : ∀ x, x ∈ bin es (bnI (sph bs)) → x ∈ es := fun x hx => (List.mem_filter.mp hx).1
  have hbln : (bin es (bnI (sph bs))).length ≤ es.length := List.length_filter_le _ _
  -- the end of it: a node n stands, F' its cells
  have fgr : Fgr h F (fun x => x = m ∨ x = tb ∨ ∃ e', e' ∈ es ++ [(h.2.1, q, bs, va)] ∧ x = e'.1) := fun x hx => by
    rcases hx with rfl | rfl | ⟨e', he', rfl⟩
    · exact Or.inl hFm
    · exact Or.inl hFt
    · rcases List.mem_append.mp he' with he' | he'
      · exact Or.inl (hFe e' he')
      · rw [List.mem_singleton] at he'
        subst he'
        exact Or.inr (Nat.le_refl _)
  refine b_HashMap_putVal_29 rfl rfl rfl (dR_of ?_)
  rw [bn_and]
  refine aR_of htb (i32_nn (by omega)) (by rw [i32_nat (by omega)]; exact hb) hch.ref ⟨fun hnull => ?_, fun q3 hq3 => ?_⟩
  · subst hnull
    have hbe : bin es (bnI (sph bs)) = [] := by
      cases hbc : bin es (bnI (sph bs)) with
      | nil => rfl
      | cons x t => rw [hbc] at hch; cases hch.1
    refine ⟨hasKs_of hm (by simp), s_newNode (d := d + 1) hw rfl rfl hroom fun hM n1 n2 n3 n4 => dR_of ⟨⟨22, true, _, n1, ck_22⟩, ?_⟩⟩
    have t1 : hM.1 tb = some (106, true, sl) := by rw [n2 tb (by omega)]; exact htb
    refine pA_of t1 (i32_nn (by omega)) (by rw [i32_nat (by omega)]; exact hbl) ?_
    rw [i32_nat (by omega)]
    have t2 := AH.put_self (fs' := sl.set (bnI (sph bs)) (.ref h.2.1)) t1
    have c2 := Chg.put (F := F) (fs' := sl.set (bnI (sph bs)) (.ref h.2.1)) t1 (by decide) hFt
    have m1 : (hM.put tb (sl.set (bnI (sph bs)) (.ref h.2.1))).1 m = some (21, true, [.null, .null, .ref tb, .null, .int (i32 es.length), .int mc, .int 12, .float 1061158912]) := by rw [AH.put_ne hmt, n2 m (by omega)]; exact hm
    refine s_hm259 rfl rfl rfl rfl h5 m1 fun h' m2 o2 c3 e3 => ?_
    have call := (((n3.mono (F' := F) (Nat.le_refl _) fun _ h9 => h9.elim).same c2).same (c3.mono (F' := F) (Nat.le_refl _) fun x h9 => by rw [h9]; exact hFm)).mono (c' := 8) (by omega) fun _ h9 => h9
    refine HK h' h.2.1 _ (HMh.ins (e := (h.2.1, q, bs, va)) hp0 hm htb call m2 ?_ (fun x hx => by have := hel x hx; show x.1 ≠ h.2.1; omega) (hs.chg call) (hv.chg call) hl h5 (Or.inl ⟨hbe, ?_, fun x hx => ?_⟩)) call fgr
    · rw [o2 _ (show h.2.1 ≠ m by omega), AH.put_ne (show h.2.1 ≠ tb by omega)]; exact n1
    · rw [o2 _ (Ne.symm hmt)]; exact t2
    · rw [o2 _ (hme x hx).1, AH.put_ne (hme x hx).2, n2 _ (by have := hel x hx; omega)]
  · cases hbc : bin es (bnI (sph bs)) with
    | nil => rw [hbc] at hch; have : v = .null := hch; rw [this] at hq3; cases hq3
    | cons e t =>
      rw [hbc] at hch hst hbm hbln
      have hch0 := hch
      obtain ⟨j1, nx, j2, j3, j4⟩ := hch
      subst j1
      cases hq3
      obtain ⟨k1, k2⟩ := hst e List.mem_cons_self
      have hne := hnoB e (hbm e List.mem_cons_self)
      have hlt : t.length + 1 ≤ es.length := hbln
      have hgo : ∀ u, MF G (d + 4) mi_HashMap_putVal 104 [.ref m, .int (sph bs), .ref q, .ref va, .int 0, .int 1, .ref tb, .ref e.1, .int (i32 16), .int (i32 (bnI (sph bs))), u10, u, u12] [] h (cR K Qx) := by
        intro u
        refine b_HashMap_putVal_104 rfl rfl rfl rfl ⟨0, iO_node j3, fun _ => ?_, fun h9 => absurd rfl h9⟩
        refine s_hm134 (d := d + 2) hK hs hl rfl rfl t e 0 _ _ hch0 hst (fun x hx => hnoB x (hbm x (List.mem_cons_of_mem _ hx))) (by omega) fun l j' u1 u2 hlc hj hlx => ?_
        obtain ⟨c', hc'⟩ := hlc
        have hlm : l ∈ e :: t := by rw [hc']; simp
        have hles := hbm l hlm
        refine b_HashMap_putVal_134 rfl rfl rfl rfl (dR_of (gR_of hlx (by simp) rfl rfl ⟨fun _ => ⟨hasKs_of hm (by simp), s_newNode (d := d + 1) hw rfl rfl hroom fun hM n1 n2 n3 n4 => ?_⟩, fun q3 e9 => by cases e9⟩))
        have l1 : hM.1 l.1 = some (22, true, [.int (sph l.2.2.1), .ref l.2.1, .ref l.2.2.2, .null]) := by rw [n2 _ (by have := hel l hles; omega)]; exact hlx
        have l2 := AH.put_self (fs' := [.int (sph l.2.2.1), .ref l.2.1, .ref l.2.2.2, .ref h.2.1]) l1
        have c2 := Chg.put (F := F) (fs' := [.int (sph l.2.2.1), .ref l.2.1, .ref l.2.2.2, .ref h.2.1]) l1 (by decide) (hFe l hles)
        refine pF_of l1 (by simp) (by simp) ⟨fun _ => b_HashMap_putVal_222 rfl rfl rfl rfl rfl ⟨fun _ => ?_, fun q1 e9 => by cases e9⟩, fun hn9 => absurd ((i32_lt (a := j') (b := 7) (by omega) (by omega)).mpr (by omega)) hn9⟩
        have m1 : (hM.put l.1 [.int (sph l.2.2.1), .ref l.2.1, .ref l.2.2.2, .ref h.2.1]).1 m = some (21, true, [.null, .null, .ref tb, .null, .int (i32 es.length), .int mc, .int 12, .float 1061158912]) := by rw [AH.put_ne (Ne.symm (hme l hles).1), n2 m (by omega)]; exact hm
        refine s_hm259 rfl rfl rfl rfl h5 m1 fun h' m2 o2 c3 e3 => ?_
        have call := (((n3.mono (F' := F) (Nat.le_refl _) fun _ h9 => h9.elim).same c2).same (c3.mono (F' := F) (Nat.le_refl _) fun x h9 => by rw [h9]; exact hFm)).mono (c' := 8) (by omega) fun _ h9 => h9
        refine HK h' h.2.1 _ (HMh.ins (e := (h.2.1, q, bs, va)) hp0 hm htb call m2 ?_ (fun x hx => by have := hel x hx; show x.1 ≠ h.2.1; omega) (hs.chg call) (hv.chg call) hl h5 (Or.inr ⟨c', l, hbc.trans hc', ?_, ?_, fun x hx hxl => ?_⟩)) call fgr
        · rw [o2 _ (show h.2.1 ≠ m by omega), AH.put_ne (show h.2.1 ≠ l.1 by have := hel l hles; omega)]; exact n1
        · rw [o2 _ (Ne.symm hmt), AH.put_ne (Ne.symm (hme l hles).2), n2 _ (by omega)]; exact htb
        · rw [o2 _ (hme l hles).1]; exact l2
        · rw [o2 _ (hme x hx).1, AH.put_ne hxl, n2 _ (by have := hel x hx; omega)]
      refine gI_of j3 (by simp) rfl ⟨fun _ => hgo _, fun heq => gR_of j3 (by simp) rfl rfl ⟨fun hv9 => ?_, fun _ => ⟨(fun e8 => by cases e8), fun q11 e8 => ?_⟩⟩⟩
      · have e9 : e.2.1 = q := by cases hv9; rfl
        rw [e9] at k1
        exact absurd (k1.inj hs) hne
      · cases e8
        exact vl_strEq hK hs k1 hl k2 ⟨fun _ => hgo _, fun hnz => absurd (of_decide_eq_true (b01_1 hnz)).symm hne⟩
theorem s_hmPut {va : Nat} {K : Value → AH → Prop} (hK : SK G) (hp : HMh h m es F) (hs : StrO h q bs) (hl : bs.length < 1000000) (hno : hmF es bs = none) (h5 : es.length < 5) (hv : IntO h (.ref va) (i32 es.length)) (hroom : 28 ≤ h.2.2) (HK : ∀ h' n F', HMh h' m (es ++ [(n, q, bs, va)]) F' → Chg 28 F h h' → Fgr h F F' → K .null h') : MF G (d + 5) mi_HashMap_put 0 [.ref m, .ref q, .ref va] [] h (cR K Qx) := by
  refine MF.wfh fun hw => b_HashMap_put_0 rfl rfl (s_hmHash (d := d) hK hs hl fun ha ca ea => ?_)
  have hp1 := hp.chg ca fun _ _ h9 => h9
  have hwa : WFh ha → True := fun _ => trivial
  refine ⟨hp1.has, MF.wfh fun hw1 => ?_⟩
  have hs1 := hs.chg ca
  have hv1 := hv.chg ca
  have hp10 := hp1
  obtain ⟨tab, mc, thr, h1, h2, h3, h4, h6, h7⟩ := hp1
  have fin : ∀ {h' : AH} {n : Nat} {F' : Nat → Prop} {cc : Nat}, cc ≤ 28 → HMh h' m (es ++ [(n, q, bs, va)]) F' → Chg cc F ha h' → Fgr ha F F' → cR K Qx (.inl (some .null)) h' := by
    intro h' n F' cc hcc a1 a2 a3
    refine cR_mk rfl (HK h' n F' a1 ?_ fun x hx => ?_)
    · exact ((ca.mono (F' := F) (Nat.le_refl _) fun _ h9 => h9.elim).same a2).mono (by omega) fun _ h9 => h9
    · rcases a3 x hx with h9 | h9
      · exact Or.inl h9
      · exact Or.inr (Nat.le_trans ca.1 h9)
  rcases h2 with ⟨e1, e2, e3⟩ | ⟨tb, sl, e1, e2, e3, e4, e5⟩
  · subst e1; subst e2; subst e3
    refine b_HashMap_putVal_0 rfl rfl (gR_of h1 (by simp) rfl rfl ⟨fun _ => b_HashMap_putVal_19 rfl rfl rfl ⟨hasKs_of h1 (by simp), b_HashMap_resize_0 (gR_of h1 (by simp) rfl rfl ⟨fun _ => b_HashMap_resize_15 rfl (gI_of h1 (by simp) rfl ⟨fun _ => ⟨fun _ => b_HashMap_resize_85 rfl ⟨fun _ => b_HashMap_resize_125 rfl ?_, fun h9 => absurd h9 (by decide)⟩, fun h9 => absurd (by decide) h9⟩, fun h9 => absurd (by decide) h9⟩), fun q2 e9 => by cases e9⟩)⟩, fun q2 e9 => by cases e9⟩)
    have hne : m ≠ ha.2.1 := by have := hw1 _ _ h1; omega
    have m1 := AH.put_self (fs' := [.null, .null, .null, .null, .int 0, .int mc, .int 12, .float 1061158912]) h1
    have hFm : F m := (h7 m).mpr (Or.inl rfl)
    have c1 := Chg.put (F := F) (fs' := [.null, .null, .null, .null, .int 0, .int mc, .int 12, .float 1061158912]) h1 (by decide) hFm
    have hr : 16 + 4 ≤ ha.2.2 := by rw [ea]; omega
    have c2 := Chg.new (h := ha.put m [.null, .null, .null, .null, .int 0, .int mc, .int 12, .float 1061158912]) (kd := 106) (fs := List.replicate 16 .null) (cost := 16 + 4) hw1.put hr
    have m2 : ((ha.put m [.null, .null, .null, .null, .int 0, .int mc, .int 12, .float 1061158912]).new 106 (List.replicate 16 .null) (16 + 4)).1 m = some (21, true, [.null, .null, .null, .null, .int 0, .int mc, .int 12, .float 1061158912]) := by rw [AH.new_ne (by exact hne)]; exact m1
    have m3 := AH.put_self (fs' := [.null, .null, .ref ha.2.1, .null, .int 0, .int mc, .int 12, .float 1061158912]) m2
    have c3 := Chg.put (F := F) (fs' := [.null, .null, .ref ha.2.1, .null, .int 0, .int mc, .int 12, .float 1061158912]) m2 (by decide) hFm
    have e16 : (16 : Int32).toNatClampNeg = 16 := rfl
    refine pF_of h1 (by simp) (by simp) ⟨_, _, rfl, rfl, by decide, by decide, hr, pF_of m2 (by simp) (by simp) ⟨fun _ => cR_mk rfl (dR_of ?_), fun q4 e9 => by cases e9⟩⟩
    have cc := ((c1.trans0 c2).same c3)
    have t3 : (((ha.put m [.null, .null, .null, .null, .int 0, .int mc, .int 12, .float 1061158912]).new 106 (List.replicate 16 .null) (16 + 4)).put m [.null, .null, .ref ha.2.1, .null, .int 0, .int mc, .int 12, .float 1061158912]).1 ha.2.1 = some (106, true, List.replicate 16 .null) := by
      rw [AH.put_ne (Ne.symm hne)]; exact AH.new_self
    refine aL_of t3 ?_
    have hpn : HMh (((ha.put m [.null, .null, .null, .null, .int 0, .int mc, .int 12, .float 1061158912]).new 106 (List.replicate 16 .null) (16 + 4)).put m [.null, .null, .ref ha.2.1, .null, .int 0, .int mc, .int 12, .float 1061158912]) m [] (fun x => x = m ∨ x = ha.2.1) := by
      refine ⟨.ref ha.2.1, mc, 12, m3, Or.inr ⟨ha.2.1, _, rfl, rfl, t3, by simp, fun b v hb => ?_⟩, fun i e he => by simp at he, by simp, by simp, fun x => ?_⟩
      · have hbl := (List.getElem?_eq_some_iff.mp hb).1
        rw [List.length_replicate] at hbl
        rw [List.getElem?_replicate, if_pos hbl] at hb
        cases hb
        rfl
      · constructor
        · rintro (h9 | h9)
          · exact Or.inl h9
          · exact Or.inr (Or.inl (by rw [h9]))
        · rintro (h9 | h9 | ⟨e, he, -⟩)
          · exact Or.inl h9
          · exact Or.inr (by cases h9; rfl)
          · exact (List.not_mem_nil he).elim
    refine s_hmPut29 (d := d) hK hpn m3 t3 (hs1.chg cc) hl hno (by simp) (hv1.chg cc) (by show 8 ≤ ha.2.2 - (16 + 4); rw [ea]; omega) fun h' n F' a1 a2 a3 => fin (cc := 28) (by omega) a1 ?_ fun x hx => ?_
    · refine (cc.trans a2 (F := F) fun x y e9 h9 => ?_).mono (by omega) fun _ h9 => h9
      rcases h9 with h9 | h9
      · rw [h9]; exact hFm
      · have := hw1 _ _ e9; omega
    · rcases a3 x hx with h9 | h9
      · rcases h9 with h9 | h9
        · rw [h9]; exact Or.inl hFm
        · exact Or.inr (by omega)
      · exact Or.inr (Nat.le_trans cc.1 h9)
  · subst e1; subst e2
    refine b_HashMap_putVal_0 rfl rfl (gR_of h1 (by simp) rfl rfl ⟨(fun e9 => by cases e9), fun q2 e9 => ?_⟩)
    cases e9
    refine aL_of e3 ⟨fun _ => ?_, fun h9 => absurd ((i32_eq (a := sl.length) (b := 0) (by omega) (by omega)).mp h9) (by omega)⟩
    rw [show Int32.ofNat sl.length = i32 16 from by rw [e4]; rfl]
    exact s_hmPut29 (d := d) hK hp10 h1 e3 hs1 hl hno h5 hv1 (by rw [ea]; omega) fun h' n F' a1 a2 a3 => fin (by omega) a1 a2 a3
theorem s_hmInit {K : AH → Prop} (ha : h.1 m = some (21, true, [.null, .null, .null, .null, .int 0, .int 0, .int 0, .float 0])) (HK : ∀ h', HMh h' m [] (fun x => x = m) → Chg 0 (fun x => x = m) h h' → h'.2 = h.2 → K h') : MF G (d + 2) mi_HashMap_init 0 [.ref m] [] h (cV K Qx) := by
  have c1 := Chg.put (F := fun x => x = m) (fs' := [.null, .null, .null, .null, .int 0, .int 0, .int 0, .float 1061158912]) ha (by decide) rfl
  refine b_HashMap_init_0 (b_AbstractMap_init_0 (cV_mk (pF_of ha (by simp) (by simp) (cV_mk (HK _ ⟨.null, 0, 0, AH.put_self ha, Or.inl ⟨rfl, rfl, rfl⟩, fun i e he => by simp at he, by simp, by simp, fun x => by simp⟩ c1 rfl)))))
end
