/-! the twin: a script done -/
set_option maxRecDepth 100000
def Sm2 (S S' : TS) : Prop := (∀ k, k ≠ 6 → k ≠ 7 → k ≠ 23 → k ≠ 25 → S'.1 k = S.1 k) ∧ (∀ k, k ≠ 0 → k ≠ 1 → k ≠ 3 → S'.2 k = S.2 k)
theorem Sm2.refl {S : TS} : Sm2 S S := ⟨fun _ _ _ _ _ => rfl, fun _ _ _ _ => rfl⟩
theorem Sm2.trans {S S1 S2 : TS} (h : Sm2 S S1) (h1 : Sm2 S1 S2) : Sm2 S S2 := ⟨fun k a b c e => (h1.1 k a b c e).trans (h.1 k a b c e), fun k a b c => (h1.2 k a b c).trans (h.2 k a b c)⟩
theorem Sm.sm2 {S S' : TS} (h : Sm S S') : Sm2 S S' := ⟨fun k a b _ e => h.1 k a b e, h.2⟩
theorem Sm2.F {S S' : TS} {x : Int32} (h : Sm2 S S') : Sm2 S (setF S' 23 x) := ⟨fun k a b c e => (setF_n c).trans (h.1 k a b c e), h.2⟩
theorem Sm2.ods {S S' : TS} {os : List OD} (h : Sm2 S S') (hO : Ods S os) : Ods S' os := fun k o hk => by
  unfold OdAt
  rw [h.2 17 (by decide) (by decide) (by decide), h.2 18 (by decide) (by decide) (by decide), h.2 19 (by decide) (by decide) (by decide), h.2 20 (by decide) (by decide) (by decide), h.2 21 (by decide) (by decide) (by decide)]
  exact hO k o hk
def PostD (h0 : AH) (m : Nat) (A : Nat → Nat) (ps : List GS) (J : Nat → GS → Prop) (S : TS) (K : Int32 → AH → Prop) (y : Bool × XS) : Prop := ∀ h' S', TWX h0 h' m A S' → Sm2 S S' → TA S' y.2.1 ps true → S'.1 7 = y.2.2.1 → S'.1 23 = i32 y.2.2.2 → J y.2.2.2 y.2.1 → y.2.2.2 ≤ 40 → K (b01 y.1) h'
theorem PostD.mono {h0 : AH} {m : Nat} {A : Nat → Nat} {ps : List GS} {J : Nat → GS → Prop} {S S1 : TS} {K : Int32 → AH → Prop} {y : Bool × XS} (h : PostD h0 m A ps J S K y) (hs : Sm2 S S1) : PostD h0 m A ps J S1 K y :=
  fun h' S' a b c e f g i => h h' S' a (hs.trans b) c e f g i
def Seg (os : List OD) (k e : Nat) : Prop := ∀ j o, k ≤ j → j < e → os[j]? = some o → o.1 = 4 → ∃ w', o.2.2.2.2 = i32 w' ∧ w' ≤ e
theorem getD_od {os : List OD} {k : Nat} (h : k < os.length) : os[k]? = some (os.getD k od0) := by
  rw [List.getD_eq_getElem?_getD, List.getElem?_eq_getElem h]; rfl
section
variable {G : GL} {h0 : AH} {m : Nat} {A : Nat → Nat} {ps : List GS}
theorem s_doesAll {os : List OD} (hW : Wos os) (h30 : os.length ≤ 30) {J : Nat → GS → Prop} (hJv : ∀ c g, J c g → GV g) (hJs : ∀ (c : Nat) (g : GS) (j : Nat) (o : OD) (g' : GS), J c g → c < 40 → os[j]? = some o → oAct g o = some (some g') → J (c + 1) g') : ∀ r k e D, e - k < r → e ≤ os.length → k ≤ os.length → r + 7 ≤ D → Seg os k e → ∀ h S x a1 u4 K Qx, TWX h0 h m A S → TA S x.1 ps true → S.1 7 = x.2.1 → S.1 23 = i32 x.2.2 → J x.2.2 x.1 → x.2.2 ≤ 40 → Ods S os → PostD h0 m A ps J S K (dAl os r k e x) → MF G D mi_M_doesAll 2 [.ref m, .int a1, .int (i32 e), .int (i32 k), u4] [] h (cI K Qx) := by
  intro r
  induction r with
  | zero => intro k e D hr; omega
  | succ r ih =>
    intro k e D hr he hk0 hD hSg h S x a1 u4 K Qx H hT h7 h23 hJ h40 hO HK
    obtain ⟨D', rfl⟩ : ∃ D', D = D' + 1 := ⟨D - 1, by omega⟩
    obtain ⟨d, rfl⟩ : ∃ d, D' = d + 6 := ⟨D' - 6, by omega⟩
    by_cases hek : e ≤ k
    · refine b_M_doesAll_2 ⟨fun _ => cI_mk ?_, fun hn => absurd ((i32_le (by omega) (by omega)).mpr hek) hn⟩
      rw [show dAl os (r + 1) k e x = (true, x) from if_pos hek] at HK
      exact HK h S H Sm2.refl hT h7 h23 hJ h40
    · have hko := getD_od (os := os) (k := k) (by omega)
      have hOk := hO k _ hko
      have hL := hT.1
      have l17 : (S.2 17).length = 30 := hL 17 rfl
      refine b_M_doesAll_2 ⟨fun hn => absurd ((i32_le (by omega) (by omega)).mp hn) hek, fun _ => tw_g (k := 17) (n := k) H (by decide) rfl (by decide) rfl (by omega) hOk.1 ⟨fun hn4 => tw_I H (by decide) rfl ?_, fun h4 => ?_⟩⟩
      · rw [h23]
        have hkd : (os.getD k od0).1 = 0 ∨ (os.getD k od0).1 = 1 ∨ (os.getD k od0).1 = 2 ∨ (os.getD k od0).1 = 3 := by
          rcases hW k _ (Nat.zero_le _) hko with e9 | e9
          · exact e9.kd
          · exact absurd e9.1 hn4
        refine ⟨fun he40 => cI_mk ?_, fun hne40 => ?_⟩
        · have : x.2.2 = 40 := (i32_eq (b := 40) (by omega) (by omega)).mp he40
          rw [show dAl os (r + 1) k e x = (false, x) from (if_neg hek).trans ((if_neg hn4).trans (if_pos this))] at HK
          exact HK h S H Sm2.refl hT h7 h23 hJ h40
        · have hn40 : ¬ x.2.2 = 40 := fun e9 => hne40 (by rw [e9]; rfl)
          rw [show dAl os (r + 1) k e x = bindB (xStep x (os.getD k od0)) (dAl os r (k + 1) e) from (if_neg hek).trans ((if_neg hn4).trans (if_neg hn40))] at HK
          refine ⟨tw_K H, s_does H hT (hJv _ _ hJ) (by omega) hOk hkd fun h1 S1 H1 hs hT1 h71 => ?_⟩
          have h231 : S1.1 23 = i32 x.2.2 := (hs.1 23 (by decide) (by decide) (by decide)).trans h23
          have est : xStep x (os.getD k od0) = ((oRes x.1 (oAct x.1 (os.getD k od0))).2.2, ((oRes x.1 (oAct x.1 (os.getD k od0))).1, x.2.1 + (oRes x.1 (oAct x.1 (os.getD k od0))).2.1, if (oRes x.1 (oAct x.1 (os.getD k od0))).2.2 then x.2.2 + 1 else x.2.2)) := rfl
          rw [h7] at h71
          cases hres : oAct x.1 (os.getD k od0) with
          | none =>
            rw [hres] at hT1 h71 est
            refine ⟨fun h9 => absurd rfl h9, fun _ => cI_mk ?_⟩
            rw [est] at HK
            exact HK h1 S1 H1 hs.sm2 hT1 h71 h231 hJ h40
          | some rr =>
            cases rr with
            | none =>
              rw [hres] at hT1 h71 est
              refine ⟨fun h9 => absurd rfl h9, fun _ => cI_mk ?_⟩
              rw [est] at HK
              exact HK h1 S1 H1 hs.sm2 hT1 h71 h231 hJ h40
            | some g' =>
              rw [hres] at hT1 h71 est
              refine ⟨fun _ => tw_I H1 (by decide) rfl (tw_F H1 (by decide) rfl fun h2 H2 => ?_), fun h9 => absurd h9 (by show ¬ b01 true = 0; decide)⟩
              rw [h231, i32_succ] at H2
              rw [i32_succ]
              rw [est] at HK
              have hJ' := hJs _ _ k _ g' hJ (by omega) hko hres
              have hs2 : Sm2 S (setF S1 23 (i32 (x.2.2 + 1))) := hs.sm2.F
              refine ih (k + 1) e (d + 6 + 1) (by omega) he (by omega) (by omega) (fun j o hj hj2 => hSg j o (by omega) hj2) h2 _ (g', x.2.1 + 0, x.2.2 + 1) a1 u4 K Qx H2 ⟨hT1.1, hT1.2.1, hT1.2.2.1, hT1.2.2.2⟩ (by rw [setF_n (by decide)]; exact h71) setF_1 hJ' (by show x.2.2 + 1 ≤ 40; omega) (hs2.ods hO) (PostD.mono HK hs2)
      · have h4' : (os.getD k od0).1 = 4 := h4
        obtain ⟨t, w, ht, ht20, hw, hkw, hwl, hin⟩ : ∃ t w, (os.getD k od0).2.2.2.1 = i32 t ∧ t ≤ 20 ∧ (os.getD k od0).2.2.2.2 = i32 w ∧ k < w ∧ w ≤ os.length ∧ ∀ j' o', os[j']? = some o' → o'.1 = 4 → k < j' → j' < w → ∃ w', o'.2.2.2.2 = i32 w' ∧ w' ≤ w := by
          rcases hW k _ (Nat.zero_le _) hko with e9 | e9
          · have e8 := e9.kd
            rw [h4'] at e8
            exact absurd e8 (by decide)
          · exact e9.2
        obtain ⟨w', hw', hwe⟩ := hSg k _ (Nat.le_refl _) (by omega) hko h4'
        have : w' = w := by
          by_cases hb : w' < 2147483648
          · exact (i32_eq hb (by omega)).mp (hw'.symm.trans hw)
          · omega
        subst this
        have hwn : ¬ (os.getD k od0).2.2.2.2 = 0 := by
          rw [hw]
          exact fun e9 => absurd ((i32_eq (b := 0) (by omega) (by omega)).mp e9) (by omega)
        have hn1 : ¬ (os.getD k od0).1 = 1 := by rw [h4']; decide
        have o20 : ∀ S', Ods S' os → (S'.2 20)[k]? = some (i32 t) := fun S' hO' => by have := (hO' k _ hko).2.2.2.1 hn1; rw [ht] at this; exact this
        have o21 : ∀ S', Ods S' os → (S'.2 21)[k]? = some (i32 w') := fun S' hO' => by have := (hO' k _ hko).2.2.2.2 (Or.inr ⟨h4', hwn⟩); rw [hw] at this; exact this
        rw [show dAl os (r + 1) k e x = bindB (itB (dAl os r (k + 1) (os.getD k od0).2.2.2.2.toNatClampNeg) (os.getD k od0).2.2.2.1.toNatClampNeg x) (dAl os r (os.getD k od0).2.2.2.2.toNatClampNeg e) from (if_neg hek).trans (if_pos h4'), ht, hw, i32_nat (by omega), i32_nat (by omega)] at HK
        have inner : ∀ s n, s + n = t → ∀ h S2 y, TWX h0 h m A S2 → Sm2 S S2 → TA S2 y.1 ps true → S2.1 7 = y.2.1 → S2.1 23 = i32 y.2.2 → J y.2.2 y.1 → y.2.2 ≤ 40 → PostD h0 m A ps J S K (bindB (itB (dAl os r (k + 1) w') s y) (dAl os r w' e)) → MF G (d + 6 + 1) mi_M_doesAll 20 [.ref m, .int a1, .int (i32 e), .int (i32 k), .int (i32 n)] [] h (cI K Qx) := by
          intro s
          induction s with
          | zero =>
            intro n hn h S2 y H2 hs hT2 h72 h232 hJ2 h402 HK2
            have hO2 := hs.ods hO
            refine b_M_doesAll_20 (tw_g (k := 20) (n := k) H2 (by decide) rfl (by decide) rfl (by omega) (o20 S2 hO2) ⟨fun _ => tw_g (k := 21) (n := k) H2 (by decide) rfl (by decide) rfl (by omega) (o21 S2 hO2) ?_, fun hn9 => absurd ((i32_le (by omega) (by omega)).mpr (by omega)) hn9⟩)
            refine ih w' e (d + 6 + 1) (by omega) he hwl (by omega) (fun j o hj hj2 => hSg j o (by omega) hj2) h S2 y a1 _ K Qx H2 hT2 h72 h232 hJ2 h402 hO2 (PostD.mono HK2 hs)
          | succ s ihs =>
            intro n hn h S2 y H2 hs hT2 h72 h232 hJ2 h402 HK2
            have hO2 := hs.ods hO
            refine b_M_doesAll_20 (tw_g (k := 20) (n := k) H2 (by decide) rfl (by decide) rfl (by omega) (o20 S2 hO2) ⟨fun hn9 => absurd ((i32_le (by omega) (by omega)).mp hn9) (by omega), fun _ => tw_g (k := 21) (n := k) H2 (by decide) rfl (by decide) rfl (by omega) (o21 S2 hO2) ⟨tw_K H2, ?_⟩⟩)
            rw [i32_succ k]
            obtain ⟨D2, hD2⟩ : ∃ D2, d + 6 = D2 + 1 := ⟨d + 5, rfl⟩
            rw [hD2]
            refine b_M_doesAll_0 ?_
            rw [← hD2]
            refine ih (k + 1) w' (d + 6) (by omega) hwl (by omega) (by omega) (fun j o hj hj2 hjo h4o => hin j o hjo h4o (by omega) hj2) h S2 y _ _ _ _ H2 hT2 h72 h232 hJ2 h402 hO2 fun h3 S3 H3 hs3 hT3 h73 h233 hJ3 h403 => ?_
            rw [show itB (dAl os r (k + 1) w') (s + 1) y = bindB (dAl os r (k + 1) w' y) (itB (dAl os r (k + 1) w') s) from rfl] at HK2
            generalize dAl os r (k + 1) w' y = z at *
            obtain ⟨zb, zx⟩ := z
            cases zb with
            | true =>
              refine ⟨fun _ => ?_, fun h9 => absurd h9 (by show ¬ b01 true = 0; decide)⟩
              rw [i32_succ]
              exact ihs (n + 1) (by omega) h3 S3 zx H3 (hs.trans hs3) hT3 h73 h233 hJ3 h403 HK2
            | false =>
              refine ⟨fun h9 => absurd rfl h9, fun _ => cI_mk ?_⟩
              exact HK2 h3 S3 H3 (hs.trans hs3) hT3 h73 h233 hJ3 h403
        exact inner t 0 rfl h S x H Sm2.refl hT h7 h23 hJ h40 HK
end
