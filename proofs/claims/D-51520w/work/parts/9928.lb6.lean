/-! who wins: bidders in order -/
set_option maxRecDepth 100000
/-- the digits as the library keeps them -/
def DigO (G : GL) (h : AH) : Prop := ∃ (q1 q2 : Nat) (v1 v2 : List Value), G.sta 8 = .ref q1 ∧ h.1 q1 = some (101, false, v1) ∧ G.sta 9 = .ref q2 ∧ h.1 q2 = some (101, false, v2) ∧ ∀ k, k < 100 → v1[k]? = some (.int (i32 (48 + k % 10))) ∧ v2[k]? = some (.int (i32 (48 + k / 10)))
/-- the sorts of tokens -/
def SortO (G : GL) : Prop := ∀ i j, i < 5 → j < 5 → (G.sta (23 + i)).isRef = true ∧ (G.sta (23 + i) = G.sta (23 + j) → i = j)
/-- what stands from the start -/
def EV (G : GL) (h : AH) : Prop := ICache G h ∧ EmpA G h ∧ SK G ∧ (∀ k, k ∈ [0, 1, 2, 5, 7, 8, 9, 10, 11, 12, 14] → LamC G h k) ∧ (∀ k C i s, strAll[k]? = some (C, i, s) → StrO h (G.str k) (sbs s)) ∧ DigO G h ∧ SortO G ∧ (G.sta 1).isRef = true ∧ (G.sta 2).isRef = true
theorem EV.chg {G : GL} {h h' : AH} {c : Nat} {F : Nat → Prop} (he : EV G h) (hc : Chg c F h h') : EV G h' := by
  obtain ⟨e1, e2, e3, e4, e5, e6, e7, e8⟩ := he
  refine ⟨e1.chg hc, e2.chg hc, e3, fun k hk => (e4 k hk).chg hc, fun k C i s hk => (e5 k C i s hk).chg hc, ?_, e7, e8⟩
  obtain ⟨q1, q2, v1, v2, d1, d2, d3, d4, d5⟩ := e6
  exact ⟨q1, q2, v1, v2, d1, hc.2.2.1 _ _ _ d2, d3, hc.2.2.1 _ _ _ d4, d5⟩
theorem EV.ic {G : GL} {h : AH} (he : EV G h) : ICache G h := he.1
theorem EV.lam {G : GL} {h : AH} (he : EV G h) {k : Nat} (hk : k ∈ [0, 1, 2, 5, 7, 8, 9, 10, 11, 12, 14]) : LamC G h k := he.2.2.2.1 k hk
theorem EV.sk {G : GL} {h : AH} (he : EV G h) : SK G := he.2.2.1
section
variable {G : GL} {d : Nat} {h : AH} {Qx : Nat → AH → Prop}
theorem s_icmp {a b : Nat} (ha : a < 2147483648) (hb : b < 2147483648) {K : Int32 → AH → Prop} (HK : ∀ r : Int32, (r < 0 ↔ a < b) → (0 < r ↔ b < a) → (r = 0 ↔ a = b) → K r h) : MF G d mi_Integer_compare 0 [.int (i32 a), .int (i32 b)] [] h (cI K Qx) := by
  refine b_Integer_compare_0 ⟨fun hle => ⟨fun hne => cI_mk (HK 1 ?_ ?_ ?_), fun he => cI_mk (HK 0 ?_ ?_ ?_)⟩, fun hgt => cI_mk (HK (-1) ?_ ?_ ?_)⟩
  all_goals first
    | (have hle' := (i32_le hb ha).mp hle
       have hne' : ¬ a = b := fun h9 => hne (by rw [h9])
       constructor <;> intro h9 <;> first | (exact absurd h9 (by decide)) | omega | decide)
    | (have he' := (i32_eq ha hb).mp he
       constructor <;> intro h9 <;> first | (exact absurd h9 (by decide)) | omega | decide)
    | (have hgt' : ¬ b ≤ a := fun h9 => hgt ((i32_le hb ha).mpr h9)
       constructor <;> intro h9 <;> first | (exact absurd h9 (by decide)) | omega | decide)
/-- the first of several by their order -/
theorem s_qFirst {cc base al cap : Nat} {Eh : AH → Value → Int → Prop} {F Fl : Nat → Prop} {vs : List Value} {xs : List VI} {K : Value → AH → Prop} (hC : CmpS G d cc F Eh) (hcc : cc ≤ 100) (hFb : ∀ x, base ≤ x → F x) (hb : base ≤ h.2.1) (hp : ALh G h al cap vs Fl) (hvs : vs = xs.map fun x => x.1) (hE : ∀ x, x ∈ xs → Eh h x.1 x.2) (hl : xs.length ≤ 5) (hroom : 4000 ≤ h.2.2) (HK : ∀ h' v, v.isRef = true → (xs = [] → v = .null) → (xs ≠ [] → ∃ x, x ∈ xs ∧ v = x.1 ∧ (∀ y, y ∈ xs → x.2 ≤ y.2) ∧ Eh h' x.1 x.2) → Chg 3400 F0s h h' → K v h') : MF G (d + 6) mi_Q_first 0 [.ref al, .retAddr 0, .retAddr 0, .retAddr 0, .retAddr 0] [] h (cR K Qx) := by
  refine MF.wfh fun hw => b_Q_first_0 rfl ⟨_, _, rfl, rfl, by omega, ?_⟩
  have fr : ∀ {c c' : Nat} {F' : Nat → Prop} {h1 h2 : AH}, Chg c F0s h h1 → Chg c' F' h1 h2 → (∀ x, F' x → h.2.1 ≤ x) → Chg (c + c') F0s h h2 := fun a b hf => a.trans b fun x y e h9 => by have := hw _ _ e; have := hf x h9; omega
  have toF : ∀ {c : Nat} {h1 h2 : AH}, Chg c F0s h1 h2 → Chg c F h1 h2 := fun a => a.mono (Nat.le_refl _) fun _ h9 => h9.elim
  have c0 := Chg.new (kd := 29) (fs := [.null, .int 0, .null, .int 0]) (cost := 8) hw (by omega)
  refine s_pqInit (Eh := Eh) (d := d + 1) AH.new_self (by show 15 ≤ h.2.2 - 8; omega) fun hA pA cA nA => dR_of ?_
  have cA' := fr c0 cA fun x h9 => by omega
  have hpA := hp.chg cA' fun _ _ h9 => h9
  have e1 : (h.new 29 [.null, .int 0, .null, .int 0] 8).2.1 = h.2.1 + 1 := rfl
  refine ⟨16, mi_ArrayList_iterator, hpA.hk, rfl, s_alIter (d := d + 3) hpA (by have := cA'.2.1; omega) fun hB iB cB nB => ?_⟩
  have cB' := fr cA' cB fun _ h9 => h9.elim
  have loop : ∀ r i hh arr es u3 u4, r + i = xs.length → PQh Eh hh h.2.1 arr es → h.2.1 ≤ arr → arr ≠ hA.2.1 → es.Perm (xs.take i) → ItA hh hA.2.1 al i → hA.2.1 < hh.2.1 → Chg (31 + 640 * i) F0s h hh → MF G (d + 6) mi_Q_first 15 [.ref al, .ref h.2.1, .ref hA.2.1, u3, u4] [] hh (cR K Qx) := by
    intro r
    induction r with
    | zero =>
      intro i hh arr es u3 u4 hi pq harr hna hes hit hlt hc
      have hi2 : i = xs.length := by omega
      subst hi2
      have hlv : vs.length = xs.length := by rw [hvs, List.length_map]
      rw [List.take_length] at hes
      have hpi := hp.chg hc fun _ _ h9 => h9
      have hks : hasKs hh h.2.1 [29] := by obtain ⟨mc, sl, ha, -⟩ := pq; exact hasKs_of ha (by simp)
      refine b_Q_first_15 rfl rfl rfl (dR_of ⟨17, mi_ArrayListItr_hasNext, hit.hk, rfl, s_alHas (d := d + 5) hpi hit (by omega) ⟨fun _ => dR_of ⟨hks, s_pqPeek hC pq ?_⟩, fun hn => absurd (by rw [decide_eq_false (by omega)]; rfl) hn⟩⟩)
      cases es with
      | nil =>
        have hx : xs = [] := List.Perm.eq_nil hes.symm
        exact ⟨fun q e9 => (by cases e9), cR_mk rfl (HK hh .null rfl (fun _ => rfl) (fun hn => absurd hx hn) (hc.mono (by omega) fun _ h9 => h9))⟩
      | cons x t =>
        have hxm : x ∈ xs := hes.mem_iff.mp List.mem_cons_self
        obtain ⟨mc, sl, -, -, -, -, -, -, -, hEE, hH⟩ := pq
        have hEx := hEE x List.mem_cons_self
        obtain ⟨q, e9, o1, o2⟩ := hC.obj hEx
        refine ⟨fun q2 e8 => ?_, cR_mk (hC.ref hEx) (HK hh x.1 (hC.ref hEx) (fun hn => by rw [hn] at hxm; exact (List.not_mem_nil hxm).elim) (fun _ => ⟨x, hxm, rfl, fun y hy => ?_, hEx⟩) (hc.mono (by omega) fun _ h9 => h9))⟩
        · have e8' : x.1 = .ref q2 := e8
          rw [e9] at e8'
          cases e8'
          exact o2
        · obtain ⟨j, hj⟩ := List.mem_iff_getElem?.mp (hes.mem_iff.mpr hy)
          exact hp_min hH j x y rfl hj
    | succ r ih =>
      intro i hh arr es u3 u4 hi pq harr hna hes hit hlt hc
      have hlv : vs.length = xs.length := by rw [hvs, List.length_map]
      have hpi := hp.chg hc fun _ _ h9 => h9
      have hil : i < xs.length := by omega
      have hx := List.getElem?_eq_getElem hil
      have hEx0 := hE _ (List.mem_of_getElem? hx)
      generalize xs[i] = x at hx hEx0
      have hv : vs[i]? = some x.1 := by rw [hvs, List.getElem?_map, hx]; rfl
      have hEx := hC.1 _ _ _ _ _ hEx0 (toF hc)
      have hel : es.length = i := by rw [hes.length_eq, List.length_take]; omega
      refine b_Q_first_15 rfl rfl rfl (dR_of ⟨17, mi_ArrayListItr_hasNext, hit.hk, rfl, s_alHas (d := d + 5) hpi hit (by omega) ⟨fun hz => absurd hz (by rw [decide_eq_true (by omega)]; decide), fun _ => ⟨17, mi_ArrayListItr_next, hit.hk, rfl, s_alNext (d := d + 3) hpi hit hv (hC.ref hEx) fun h1' i1 c1 n1 => ?_⟩⟩⟩)
      have hAge : h.2.1 ≤ hA.2.1 := by omega
      have c1' := fr hc c1 fun x h9 => by rw [h9]; exact hAge
      have hEx1 := hC.1 _ _ _ _ _ hEx0 (toF c1')
      obtain ⟨q, e9, o1, o2⟩ := hC.obj hEx1
      have cF : ∀ {c : Nat} {h1 h2 : AH} {F' : Nat → Prop}, Chg c F' h1 h2 → (∀ x, F' x → h.2.1 ≤ x) → Chg c F h1 h2 := fun a hf => a.mono (Nat.le_refl _) fun x h9 => hFb x (by have := hf x h9; omega)
      have pq1 : PQh Eh h1' h.2.1 arr es := pq.chg c1 (by show ¬ h.2.1 = hA.2.1; omega) hna fun v n hv => hC.1 _ _ _ _ _ hv (cF c1 fun x h9 => by rw [h9]; exact hAge)
      have hks : hasKs h1' h.2.1 [29] := by obtain ⟨mc, sl, ha, -⟩ := pq1; exact hasKs_of ha (by simp)
      refine ⟨fun q2 e8 => (by rw [e9] at e8; cases e8; exact o2), dR_of ⟨hks, s_pqAdd (d := d) (x := x) hC pq1 (hFb _ (by omega)) (hFb _ (by omega)) (fun q hq => hFb q (by have := c1'.1; omega)) hEx1 (by omega) ?_ fun h2' arr' p2 c2 a2 => ?_⟩⟩
      · have := c1'.2.1
        have : es.length * cc ≤ 5 * 100 := Nat.mul_le_mul (by omega) hcc
        omega
      · have hcc2 : es.length * cc ≤ 5 * 100 := Nat.mul_le_mul (by omega) hcc
        have c2' := fr c1' c2 fun x h9 => by rcases h9 with h9 | h9 <;> omega
        have hperm : (pqUp rkV es.length (es ++ [x]) es.length x).Perm (xs.take (i + 1)) := by
          have p1 := pqUp_perm (key := rkV) es.length (es ++ [x]) es.length x (by simp)
          have hset : (es ++ [x]).set es.length x = es ++ [x] := by
            rw [List.set_append_right _ _ (Nat.le_refl _), Nat.sub_self]; rfl
          rw [hset] at p1
          obtain ⟨g1, g2⟩ := List.getElem?_eq_some_iff.mp hx
          rw [List.take_succ_eq_append_getElem g1, g2]
          exact p1.trans (List.Perm.append_right _ hes)
        refine ih (i + 1) h2' arr' _ _ _ (by omega) p2 (by rcases a2 with h9 | h9; rw [h9]; exact harr; have := c1'.1; omega) (fun h9 => ?_) hperm (i1.chg c2 (fun h9 => ?_) fun h9 => ?_) ?_ (c2'.mono (by omega) fun _ h9 => h9)
        · rcases a2 with h8 | h8
          · exact hna (by rw [← h8]; exact h9)
          · omega
        · rcases h9 with h9 | h9
          · omega
          · exact hna h9.symm
        · have hal := hp.low hw al hp.self
          rcases h9 with h9 | h9 <;> omega
        · have := c2.1; omega
  refine loop xs.length 0 hB (h.2.1 + 1) [] _ _ rfl ?_ (by omega) (by omega) (List.Perm.refl _) iB (by omega) (cB'.mono (by omega) fun _ h9 => h9)
  rw [e1] at pA
  exact pA.chg cB (fun h9 => h9) (fun h9 => h9) fun v n hv => hC.1 _ _ _ _ _ hv (toF cB)
end
