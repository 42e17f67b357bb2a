/-! runs, squares, crowns, the score, who wins -/
set_option maxRecDepth 100000
section
variable {G : GL} {d : Nat} {h0 h : AH} {m : Nat} {A : Nat → Nat} {S : TS} {g : GS} {Qx : Nat → AH → Prop} {K : Int32 → AH → Prop}
theorem s_runsOf {p f : Int32} (H : TWX h0 h m A S) (hR : TR (S.2 0) g) (HK : K (rns g p f) h) : MF G (d + 3) mi_M_runsOf 0 [.ref m, .int p, .int f, .retAddr 0, .retAddr 0] [] h (cI K Qx) := by
  refine b_M_runsOf_0 ?_
  have loop : ∀ r k, r + k = 9 → MF G (d + 3) mi_M_runsOf 5 [.ref m, .int p, .int f, .int (itn (fun a k => if rnf g p f (k + 1) = 0 then a else a + 1) 0 k), .int (i32 (k + 1))] [] h (cI K Qx) := by
    intro r
    induction r with
    | zero =>
      intro k hk
      have : k = 9 := by omega
      subst this
      exact b_M_runsOf_5 ⟨fun _ => cI_mk HK, fun hn => absurd (by decide) hn⟩
    | succ r ih =>
      intro k hk
      have hst := ih (k + 1) (by omega)
      rw [← i32_succ (k + 1)] at hst
      have hc := rnf_le g p f (k + 1)
      refine b_M_runsOf_5 ⟨fun hn => absurd ((i32_lt (a := 9) (by omega) (by omega)).mp hn) (by omega), fun _ => ⟨tw_K H, s_runFrom (by omega) (by omega) H hR ⟨fun hle => ?_, fun hgt => ?_⟩⟩⟩
      · have h9 : rnf g p f (k + 1) = 0 := Nat.le_zero.mp ((i32_le (b := 0) (by omega) (by omega)).mp hle)
        simp only [itn, if_pos h9] at hst; exact hst
      · have h9 : ¬ rnf g p f (k + 1) = 0 := fun e => hgt (by rw [e]; decide)
        simp only [itn, if_neg h9] at hst; exact hst
  exact loop 9 0 rfl
theorem s_squaresOf {p f : Int32} (H : TWX h0 h m A S) (hR : TR (S.2 0) g) (HK : K (sqs g p f) h) : MF G (d + 3) mi_M_squaresOf 0 [.ref m, .int p, .int f, .retAddr 0, .retAddr 0] [] h (cI K Qx) := by
  refine b_M_squaresOf_0 ?_
  have loop : ∀ r k, r + k = 9 → MF G (d + 3) mi_M_squaresOf 5 [.ref m, .int p, .int f, .int (itn (fun a k => a + i32 (rnf g p f (k + 1)) * i32 (rnf g p f (k + 1))) 0 k), .int (i32 (k + 1))] [] h (cI K Qx) := by
    intro r
    induction r with
    | zero =>
      intro k hk
      have : k = 9 := by omega
      subst this
      exact b_M_squaresOf_5 ⟨fun _ => cI_mk HK, fun hn => absurd (by decide) hn⟩
    | succ r ih =>
      intro k hk
      have hst := ih (k + 1) (by omega)
      rw [← i32_succ (k + 1)] at hst
      exact b_M_squaresOf_5 ⟨fun hn => absurd ((i32_lt (a := 9) (by omega) (by omega)).mp hn) (by omega), fun _ => ⟨tw_K H, s_runFrom (by omega) (by omega) H hR ⟨tw_K H, s_runFrom (by omega) (by omega) H hR hst⟩⟩⟩
  exact loop 9 0 rfl
theorem s_longestOf {p : Int32} {F : Nat} (hF : g.ns 0 = i32 F) (hF6 : F ≤ 6) (H : TWX h0 h m A S) (hR : TR (S.2 0) g) (HK : K (lgs g p F) h) : MF G (d + 3) mi_M_longestOf 0 [.ref m, .int p, .retAddr 0, .retAddr 0, .retAddr 0] [] h (cI K Qx) := by
  refine b_M_longestOf_0 ?_
  have inner : ∀ f, f < F → (∀ u9, MF G (d + 3) mi_M_longestOf 4 [.ref m, .int p, .int (itn (fun a f => itn (fun a k => mx a (i32 (rnf g p (i32 f) (k + 1)))) a 9) 0 (f + 1)), .int (i32 (f + 1)), u9] [] h (cI K Qx)) → ∀ r k, r + k = 9 → MF G (d + 3) mi_M_longestOf 17 [.ref m, .int p, .int (itn (fun a k => mx a (i32 (rnf g p (i32 f) (k + 1)))) (itn (fun a f => itn (fun a k => mx a (i32 (rnf g p (i32 f) (k + 1)))) a 9) 0 f) k), .int (i32 f), .int (i32 (k + 1))] [] h (cI K Qx) := by
    intro f hf hnext r
    induction r with
    | zero =>
      intro k hk
      have : k = 9 := by omega
      subst this
      refine b_M_longestOf_17 ⟨fun _ => ?_, fun hn => absurd (by decide) hn⟩
      rw [i32_succ]; exact hnext _
    | succ r ih =>
      intro k hk
      have hst := ih (k + 1) (by omega)
      rw [← i32_succ (k + 1)] at hst
      exact b_M_longestOf_17 ⟨fun hn => absurd ((i32_lt (a := 9) (by omega) (by omega)).mp hn) (by omega), fun _ => ⟨tw_K H, s_runFrom (by omega) (by omega) H hR hst⟩⟩
  have loop : ∀ r f, r + f = F → ∀ u9, MF G (d + 3) mi_M_longestOf 4 [.ref m, .int p, .int (itn (fun a f => itn (fun a k => mx a (i32 (rnf g p (i32 f) (k + 1)))) a 9) 0 f), .int (i32 f), u9] [] h (cI K Qx) := by
    intro r
    induction r with
    | zero =>
      intro f hf u9
      have : f = F := by omega
      subst this
      refine b_M_longestOf_4 (tw_n (j := 0) H hR (by decide) ⟨fun _ => cI_mk HK, fun hn => absurd ?_ hn⟩)
      show rowN g 0 ≤ i32 f
      rw [show rowN g 0 = i32 f from hF]
      exact (i32_le (by omega) (by omega)).mpr (Nat.le_refl _)
    | succ r ih =>
      intro f hf u9
      refine b_M_longestOf_4 (tw_n (j := 0) H hR (by decide) ⟨fun hn => absurd hn ?_, fun _ => inner f (by omega) (fun u => ih (f + 1) (by omega) u) 9 0 rfl⟩)
      show ¬ rowN g 0 ≤ i32 f
      rw [show rowN g 0 = i32 F from hF]
      exact fun e => absurd ((i32_le (by omega) (by omega)).mp e) (by omega)
  exact loop F 0 rfl _
theorem s_crownsOf {p : Int32} {F : Nat} (hF : g.ns 0 = i32 F) (hF6 : F ≤ 6) (H : TWX h0 h m A S) (hR : TR (S.2 0) g) (HK : K (crs g p F 60) h) : MF G (d + 2) mi_M_crownsOf 0 [.ref m, .int p, .retAddr 0, .retAddr 0] [] h (cI K Qx) := by
  refine b_M_crownsOf_0 ?_
  have loop : ∀ r f, r + f = F → MF G (d + 2) mi_M_crownsOf 5 [.ref m, .int p, .int (itn (fun a f => mn a (i32 (fcn g p (i32 f)))) 60 f), .int (i32 f)] [] h (cI K Qx) := by
    intro r
    induction r with
    | zero =>
      intro f hf
      have : f = F := by omega
      subst this
      refine b_M_crownsOf_5 (tw_n (j := 0) H hR (by decide) ⟨fun _ => cI_mk HK, fun hn => absurd ?_ hn⟩)
      show rowN g 0 ≤ i32 f
      rw [show rowN g 0 = i32 f from hF]
      exact (i32_le (by omega) (by omega)).mpr (Nat.le_refl _)
    | succ r ih =>
      intro f hf
      have hst := ih (f + 1) (by omega)
      rw [← i32_succ f] at hst
      refine b_M_crownsOf_5 (tw_n (j := 0) H hR (by decide) ⟨fun hn => absurd hn ?_, fun _ => ⟨tw_K H, s_countFace H hR hst⟩⟩)
      show ¬ rowN g 0 ≤ i32 f
      rw [show rowN g 0 = i32 F from hF]
      exact fun e => absurd ((i32_le (by omega) (by omega)).mp e) (by omega)
  exact loop F 0 rfl
theorem s_scoreOf {k : Nat} {x : PL} {F : Nat} (hx : g.pl[k]? = some x) (hF : g.ns 0 = i32 F) (hF6 : F ≤ 6) (H : TWX h0 h m A S) (hR : TR (S.2 0) g) (HK : K (scr g (i32 k) x.2.1 F 60) h) : MF G (d + 4) mi_M_scoreOf 0 [.ref m, .int (i32 k), .retAddr 0, .retAddr 0] [] h (cI K Qx) := by
  refine b_M_scoreOf_0 ⟨tw_K H, s_crownsOf hF hF6 H hR ⟨tw_K H, s_of (j := 1) H hR hx (by decide) ?_⟩⟩
  have loop : ∀ r f, r + f = F → MF G (d + 4) mi_M_scoreOf 20 [.ref m, .int (i32 k), .int (itn (fun a f => a + ((sqs g (i32 k) (i32 f) + i32 (fcn g (i32 k) (i32 f))) - nbs g (i32 k) (i32 f))) (10 * crs g (i32 k) F 60 + x.2.1 / 5) f), .int (i32 f)] [] h (cI K Qx) := by
    intro r
    induction r with
    | zero =>
      intro f hf
      have : f = F := by omega
      subst this
      refine b_M_scoreOf_20 (tw_n (j := 0) H hR (by decide) ⟨fun _ => cI_mk HK, fun hn => absurd ?_ hn⟩)
      show rowN g 0 ≤ i32 f
      rw [show rowN g 0 = i32 f from hF]
      exact (i32_le (by omega) (by omega)).mpr (Nat.le_refl _)
    | succ r ih =>
      intro f hf
      have hst := ih (f + 1) (by omega)
      rw [← i32_succ f] at hst
      refine b_M_scoreOf_20 (tw_n (j := 0) H hR (by decide) ⟨fun hn => absurd hn ?_, fun _ => ⟨tw_K H, s_squaresOf H hR ⟨tw_K H, s_countFace H hR ⟨tw_K H, s_numbersOf H hR hst⟩⟩⟩⟩)
      show ¬ rowN g 0 ≤ i32 f
      rw [show rowN g 0 = i32 F from hF]
      exact fun e => absurd ((i32_le (by omega) (by omega)).mp e) (by omega)
  exact loop F 0 rfl
end
