/-! arrays written; casts; statics -/
set_option maxRecDepth 100000
section OKF
variable {z : XKT} {own : String} {cc : ByteArray} {nL : Nat} {ini : String × String} {pc : Nat} {f : XSem}
theorem xev_i {t : XSt} {c a j : Nat} (h : c ≠ 1002) (h2 : c < 1003) : xev t c a j = .int (xai t a j) := by unfold xev; rw [if_neg h, if_pos h2]
theorem xev_r {t : XSt} {c a j : Nat} (h2 : 1003 ≤ c) : xev t c a j = va_rf (xar t a j) := by unfold xev; rw [if_neg (by omega), if_neg (by omega)]
theorem xsai_o {t : XSt} {a i b : Nat} {v : Int32} (h : b ≠ a) : xai (xsai t a i v) b = xai t b := by funext j; rw [xai_xsai, if_neg (fun q => h q.1)]
theorem xsaj_o {t : XSt} {a i b : Nat} {v : Int64} (h : b ≠ a) : xaj (xsaj t a i v) b = xaj t b := by funext j; rw [xaj_xsaj, if_neg (fun q => h q.1)]
theorem xsar_o {t : XSt} {a i b : Nat} {v : Option Nat} (h : b ≠ a) : xar (xsar t a i v) b = xar t b := by funext j; rw [xar_xsar, if_neg (fun q => h q.1)]
theorem ok_iast (d : decode cc pc = .ok (.iastore, 1)) : XOkS z own cc nL ini pc (i_ast z.1 1000 (fun x => x) (pc + 1)) :=
  XOkS.w fun {al st t q} hf => by
    unfold i_ast at hf
    split at hf
    · split at hf
      · rename_i x i a r hc
        cases hf
        refine ⟨rfl, rfl, rfl, fun {p l e R s m args below meth cd H locs cells slots Q ls} hE hR hS hL _ _ k => ?_⟩
        obtain ⟨hb, hc, hin⟩ := hc
        obtain ⟨cell, q1, q2, q3, q4, q5, q6, q7⟩ := hR.ar hc (by omega)
        have hlt : i.toNatClampNeg < xln t a := Nat.not_le.mp fun q => hin (Or.inr q)
        refine W.iast hE.1 hE.2.1 q1 (hE.2.2.2.2.2.1.arr (ty := .int) (List.mem_of_getElem? (i := 0) rfl) q2 q4) q3 (by rw [q6]; exact hin) rfl rfl d fun H1 e1 e2 e3 => ?_
        exact k H1 _ (hR.wr (t1 := xsai t a i.toNatClampNeg x) hc (by omega) hlt q1 e1 e2 e3 rfl rfl rfl rfl rfl (fun b hb => ⟨xsai_o hb, rfl, rfl⟩) (by rw [xev_i (by omega) (by omega), xai_xsai, if_pos ⟨rfl, rfl⟩]) (fun j hj => by rw [xev_i (by omega) (by omega), xev_i (by omega) (by omega), xai_xsai, if_neg (fun q => hj q.2)]) (fun q => by omega)) (hS.wr hb e2 e3) (fun x hx => by rw [List.mem_singleton.mp hx]; exact hb)
      · cases hf
    · cases hf
theorem ok_bast (d : decode cc pc = .ok (.bastore, 1)) : XOkS z own cc nL ini pc (i_ast z.1 1001 (fun x => x.toInt8.toInt32) (pc + 1)) :=
  XOkS.w fun {al st t q} hf => by
    unfold i_ast at hf
    split at hf
    · split at hf
      · rename_i x i a r hc
        cases hf
        refine ⟨rfl, rfl, rfl, fun {p l e R s m args below meth cd H locs cells slots Q ls} hE hR hS hL _ _ k => ?_⟩
        obtain ⟨hb, hc, hin⟩ := hc
        obtain ⟨cell, q1, q2, q3, q4, q5, q6, q7⟩ := hR.ar hc (by omega)
        have hlt : i.toNatClampNeg < xln t a := Nat.not_le.mp fun q => hin (Or.inr q)
        refine W.bast hE.1 hE.2.1 q1 (hE.2.2.2.2.2.1.arr (ty := .byte) (List.mem_of_getElem? (i := 1) rfl) q2 q4) q3 (by rw [q6]; exact hin) rfl rfl d fun H1 e1 e2 e3 => ?_
        have e1' : H1[a]? = some (cell.setSlot i.toNatClampNeg (.int x.toInt8.toInt32)) := e1
        exact k H1 _ (hR.wr (t1 := xsai t a i.toNatClampNeg x.toInt8.toInt32) hc (by omega) hlt q1 e1' e2 e3 rfl rfl rfl rfl rfl (fun b hb => ⟨xsai_o hb, rfl, rfl⟩) (by rw [xev_i (by omega) (by omega), xai_xsai, if_pos ⟨rfl, rfl⟩]) (fun j hj => by rw [xev_i (by omega) (by omega), xev_i (by omega) (by omega), xai_xsai, if_neg (fun q => hj q.2)]) (fun q => ⟨by rw [xai_xsai, if_pos ⟨rfl, rfl⟩]; exact pk_fb x, fun j hj => by rw [xai_xsai, if_neg (fun q => hj q.2)]⟩)) (hS.wr hb e2 e3) (fun x hx => by rw [List.mem_singleton.mp hx]; exact hb)
      · cases hf
    · cases hf
theorem ok_last (d : decode cc pc = .ok (.lastore, 1)) : XOkS z own cc nL ini pc (i_ajst z.1 1002 (pc + 1)) :=
  XOkS.w fun {al st t q} hf => by
    unfold i_ajst at hf
    split at hf
    · split at hf
      · rename_i x i a r hc
        cases hf
        refine ⟨rfl, rfl, rfl, fun {p l e R s m args below meth cd H locs cells slots Q ls} hE hR hS hL _ _ k => ?_⟩
        obtain ⟨hb, hc, hin⟩ := hc
        obtain ⟨cell, q1, q2, q3, q4, q5, q6, q7⟩ := hR.ar hc (by omega)
        have hlt : i.toNatClampNeg < xln t a := Nat.not_le.mp fun q => hin (Or.inr q)
        refine W.last hE.1 hE.2.1 q1 (hE.2.2.2.2.2.1.arr (ty := .long) (List.mem_of_getElem? (i := 2) rfl) q2 q4) q3 (by rw [q6]; exact hin) rfl rfl d fun H1 e1 e2 e3 => ?_
        exact k H1 _ (hR.wr (t1 := xsaj t a i.toNatClampNeg x) hc (by omega) hlt q1 e1 e2 e3 rfl rfl rfl rfl rfl (fun b hb => ⟨rfl, xsaj_o hb, rfl⟩) (by unfold xev; rw [if_pos rfl, xaj_xsaj, if_pos ⟨rfl, rfl⟩]) (fun j hj => by unfold xev; rw [if_pos rfl, if_pos rfl, xaj_xsaj, if_neg (fun q => hj q.2)]) (fun q => by omega)) (hS.wr hb e2 e3) (fun x hx => by rw [List.mem_singleton.mp hx]; exact hb)
      · cases hf
    · cases hf
/-- the name of a code's cells -/
theorem xrecv {s : State} {t : XSt} {H : Heap} {a c : Nat} {C : String} {T : u_T} {N : Nat} (hK : XKn z s) (hR : XRp z t H) (hc : xcl t a = c) (hC : (c, C, T, N) ∈ xCls) (h0 : c ≠ 0) (h1 : c < 1000) : ∃ cell : Cell, H[a]? = some cell ∧ cell.vm.isStatics = false ∧ s.vm.findClass C = some cell.cls ∧ cell.cls = xdC z c ∧ cell.vm ≠ .unknown := by
  obtain ⟨cell, q1, q2, q3, q4, -, -⟩ := hR.ob hc h0 h1
  exact ⟨cell, q1, q4, by rw [q2]; exact (hK.1 _ hC).2.1, q2, q3⟩
/-- what may be stored in an array of references: its own kind, or a kind that the tables say can be cast -/
def XAs (c : Nat) (E : String) (v : Nat) : Prop := v ≠ 0 ∧ v < 1000 ∧ ((c, FieldType.object E) ∈ xArs) ∧ ∃ C T N, (v, C, T, N) ∈ xCls ∧ (C = E ∨ Cond.castable C E ∈ lw_tbl)
theorem xasg {s : State} {c : Nat} {C E : String} {T : u_T} {N : Nat} (hK : XKn z s) (hC : (c, C, T, N) ∈ xCls) (h : C = E ∨ Cond.castable C E ∈ lw_tbl) : ∃ t, s.vm.findClass E = some t ∧ s.vm.assignable (xdC z c) t = true := by
  have hA := (hK.1 _ hC).2
  rcases h with e | e
  · subst e
    exact ⟨_, hA.1, va_assign hA⟩
  · obtain ⟨c0, t0, f1, f2, f3⟩ := Cond.castable_spec (va_Nw.use (A := #[]) rfl (hK.2.2.1 _ e rfl))
    have hc0 : c0 = xdC z c := Option.some.inj (f1.symm.trans hA.1)
    rw [hc0] at f3
    exact ⟨t0, f2, f3⟩
theorem ok_arst {c : Nat} {vs : List Nat} {E : String} (d : decode cc pc = .ok (.aastore, 1)) (h : ∀ v ∈ vs, XAs c E v) (hE9 : (c, FieldType.object E) ∈ xArs) (h1000 : 1003 ≤ c) : XOkS z own cc nL ini pc (i_arst z.1 c vs (pc + 1)) :=
  XOkS.w fun {al st t q} hf => by
    unfold i_arst at hf
    split at hf
    · split at hf
      · rename_i o i a r hc
        cases hf
        refine ⟨rfl, rfl, rfl, fun {p l e R s m args below meth cd H locs cells slots Q ls} hE hR hS hL _ _ k => ?_⟩
        obtain ⟨⟨hb, hc, hin⟩, hany⟩ := hc
        obtain ⟨cell, q1, q2, q3, q4, q5, q6, q7⟩ := hR.ar hc (by omega)
        have hlt : i.toNatClampNeg < xln t a := Nat.not_le.mp fun q => hin (Or.inr q)
        have h0 : ¬ i < 0 := fun q => hin (Or.inl q)
        obtain ⟨kA, comp, k1, k2, k3, -⟩ := (hE.2.2.2.2.2.1.2.1 _ hE9).2
        have fin : ∀ H1 : Heap, H1[a]? = some (cell.setSlot i.toNatClampNeg (va_rf o)) → H1.size = H.size → (∀ q, q ≠ a → H1[q]? = H[q]?) → W p l e R s m args below meth cd H1 (locs ++ [⟨a, i.toNatClampNeg⟩]) cells slots Q (F0 m (pc + 1) ls (vcs r)) := by
          intro H1 e1 e2 e3
          exact k H1 _ (hR.wr (t1 := xsar t a i.toNatClampNeg o) hc (by omega) hlt q1 e1 e2 e3 rfl rfl rfl rfl rfl (fun b hb => ⟨rfl, rfl, xsar_o hb⟩) (by rw [xev_r (by omega), xar_xsar, if_pos ⟨rfl, rfl⟩]) (fun j hj => by rw [xev_r (by omega), xev_r (by omega), xar_xsar, if_neg (fun q => hj q.2)]) (fun q => by omega)) (hS.wr hb e2 e3) (fun x hx => by rw [List.mem_singleton.mp hx]; exact hb)
        cases o with
        | none =>
          exact va_WaastN hE.1 hE.2.1 q1 (hE.2.2.2.2.2.1.arr hE9 q2 q4) q3 (by rw [q6]; exact hin) rfl rfl d fin
        | some w =>
          have hw : xcl t w ∈ vs := by simpa [xany] using hany
          obtain ⟨w0, w1, -, C, T, N, w2, w3⟩ := h _ hw
          obtain ⟨cv, g1, g2, g3, g4, g5⟩ := xrecv hE.2.2.2.2.2.1 hR rfl w2 w0 w1
          obtain ⟨t0, f2, f3⟩ := xasg hE.2.2.2.2.2.1 w2 w3
          have hcomp : comp = t0 := Option.some.inj (k3.symm.trans f2)
          have hcv : cv.cls = xdC z (xcl t w) := g4
          obtain ⟨kv, hkv, -⟩ := Vm.findClass_spec g3
          obtain ⟨kc, hkc, -⟩ := Vm.findClass_spec k3
          exact W.aast hE.1 hE.2.1 q1 (by intro q hq; rw [hq] at q4; cases q4) q3 (by rw [q2]; exact k1) k2 rfl hkc ⟨h0, by rw [q6]; exact hlt⟩ g1 (by intro q hq; rw [hq] at g2; cases g2) hkv (by rw [hcv, hcomp]; exact f3) rfl rfl d fin
      · cases hf
    · cases hf
/-- statics -/
theorem ok_gets {i j : Nat} {ref n ds : String} (d : decode cc pc = .ok (.getstatic i, 3)) (hl : Cond.fieldLink own i ref n ds ∈ lw_all) (h : (ref, n, ds, j) ∈ xSts) : XOkS z own cc nL ini pc (i_push (vR (some (z.2.1 j))) (pc + 3)) :=
  XOkS.p fun {al st t q} hf => by
    cases hf
    refine ⟨rfl, fun hE hR hS hL _ _ k => ?_⟩
    obtain ⟨cf, kf, fi, f, a, cell, h1, h2, h3, h4, h5, h6, h7, h8⟩ := hE.2.2.2.2.2.2.1.1 _ h
    exact W.gets hE.1 hE.2.1 hE.2.2.2.1 (hE.2.2.2.2.1 _ hl) h1 h2 h3 h4 (by rw [hS.2 a (Nat.not_le.mp h8)]; exact h5) (fun e => by rw [e] at h6; cases h6) h7 rfl d (k _ hL)
theorem ok_getsN {i j : Nat} {ref n ds host : String} (d : decode cc pc = .ok (.getstatic i, 3)) (hl : Cond.fieldLinkNest own i ref n ds host ∈ lw_tbl) (h : (ref, n, ds, j) ∈ xSts) : XOkS z own cc nL ini pc (i_push (vR (some (z.2.1 j))) (pc + 3)) :=
  XOkS.p fun {al st t q} hf => by
    cases hf
    refine ⟨rfl, fun hE hR hS hL _ _ k => ?_⟩
    obtain ⟨cf, kf, fi, f, a, cell, h1, h2, h3, h4, h5, h6, h7, h8⟩ := hE.2.2.2.2.2.2.1.1 _ h
    exact va_WgetsN hE.1 hE.2.1 hE.2.2.2.1 (va_Nw.use rfl (hE.2.2.2.2.2.1.2.2.1 _ hl rfl)) h1 h2 h3 h4 (by rw [hS.2 a (Nat.not_le.mp h8)]; exact h5) (fun e => by rw [e] at h6; cases h6) h7 rfl d (k _ hL)
theorem ok_getsI {i : Nat} {v : Int32} {ref n ds : String} (d : decode cc pc = .ok (.getstatic i, 3)) (hl : Cond.fieldLink own i ref n ds ∈ lw_all) (h : (ref, n, ds, v) ∈ xSti) : XOkS z own cc nL ini pc (i_push (vI v) (pc + 3)) :=
  XOkS.p fun {al st t q} hf => by
    cases hf
    refine ⟨rfl, fun hE hR hS hL _ _ k => ?_⟩
    obtain ⟨cf, kf, fi, f, a, cell, h1, h2, h3, h4, h5, h6, h7, h8⟩ := hE.2.2.2.2.2.2.1.2.1 _ h
    exact W.gets hE.1 hE.2.1 hE.2.2.2.1 (hE.2.2.2.2.1 _ hl) h1 h2 h3 h4 (by rw [hS.2 a (Nat.not_le.mp h8)]; exact h5) (fun e => by rw [e] at h6; cases h6) h7 rfl d (k _ hL)
theorem ok_getsU {i j : Nat} {ref n ds : String} (d : decode cc pc = .ok (.getstatic i, 3)) (hl : Cond.fieldLink own i ref n ds ∈ lw_all) (h : (ref, n, ds, j) ∈ xStn) : XOkS z own cc nL ini pc (i_push (vR (z.2.2.1 j)) (pc + 3)) :=
  XOkS.p fun {al st t q} hf => by
    cases hf
    refine ⟨rfl, fun hE hR hS hL _ _ k => ?_⟩
    obtain ⟨cf, kf, fi, f, a, cell, h1, h2, h3, h4, h5, h6, h7, h8⟩ := hE.2.2.2.2.2.2.1.2.2.1 _ h
    exact W.gets hE.1 hE.2.1 hE.2.2.2.1 (hE.2.2.2.2.1 _ hl) h1 h2 h3 h4 (by rw [hS.2 a (Nat.not_le.mp h8)]; exact h5) (fun e => by rw [e] at h6; cases h6) h7 rfl d (k _ hL)
/-- casts -/
theorem ok_cast {i : Nat} {nm : String} {cs : List Nat} (d : decode cc pc = .ok (.checkcast i, 3)) (hl : Cond.classLink own i nm ∈ lw_all) (h : ∀ c ∈ cs, c ≠ 0 ∧ c < 1000 ∧ ∃ C T N, (c, C, T, N) ∈ xCls ∧ (C = nm ∨ Cond.castable C nm ∈ lw_tbl)) : XOkS z own cc nL ini pc (i_cast cs (pc + 3)) :=
  XOkS.p fun {al st t q} hf => by
    unfold i_cast at hf
    split at hf
    · split at hf
      · rename_i o r hc
        cases hf
        refine ⟨rfl, fun hE hR hS hL _ _ k => ?_⟩
        cases o with
        | none => exact lv_castN hE.1 hE.2.1 d (k _ hL)
        | some a =>
          have hw : xcl t a ∈ cs := by simpa [xany] using hc
          obtain ⟨h0, h1, C, T, N, hC, hcast⟩ := h _ hw
          obtain ⟨cell, g1, g2, g3, -, -⟩ := xrecv hE.2.2.2.2.2.1 hR rfl hC h0 h1
          rcases hcast with hcast | hcast
          · subst hcast
            exact va_castS hE.1 hE.2.1 hE.2.2.2.1 (hE.2.2.2.2.1 _ hl) (hE.2.2.2.2.2.1.1 _ hC).2 ⟨cell, g1, g2, g3⟩ d (k _ hL)
          · exact va_castY hE.1 hE.2.1 hE.2.2.2.1 (hE.2.2.2.2.1 _ hl) (hE.2.2.2.2.2.1.2.2.1 _ hcast rfl) ⟨cell, g1, g2, g3⟩ d (k _ hL)
      · cases hf
    · cases hf
theorem ok_inst {i : Nat} {nm : String} {ys ns : List Nat} (d : decode cc pc = .ok (.instanceof i, 3)) (hl : Cond.classLink own i nm ∈ lw_all) (h : ∀ c ∈ ys, c ≠ 0 ∧ c < 1000 ∧ ∃ C T N, (c, C, T, N) ∈ xCls ∧ (C = nm ∨ Cond.castable C nm ∈ lw_tbl)) (h2 : ∀ c ∈ ns, c ≠ 0 ∧ c < 1000 ∧ ∃ C T N, (c, C, T, N) ∈ xCls ∧ (C, nm) ∈ xNcs) : XOkS z own cc nL ini pc (i_inst ys ns (pc + 3)) :=
  XOkS.p fun {al st t q} hf => by
    unfold i_inst at hf
    split at hf
    · cases hf
      exact ⟨rfl, fun hE hR hS hL _ _ k => lv_instN hE.1 hE.2.1 d (k _ hL)⟩
    · split at hf
      · rename_i a r hc
        cases hf
        refine ⟨rfl, fun hE hR hS hL _ _ k => ?_⟩
        have k1 := k _ hL
        by_cases hy : xcl t a ∈ ys
        · obtain ⟨h0, h1, C, T, N, hC, hcast⟩ := h _ hy
          obtain ⟨cell, g1, g2, g3, -, -⟩ := xrecv hE.2.2.2.2.2.1 hR rfl hC h0 h1
          dsimp only at k1
          rw [if_pos hy] at k1
          rcases hcast with hcast | hcast
          · subst hcast
            exact va_instS hE.1 hE.2.1 hE.2.2.2.1 (hE.2.2.2.2.1 _ hl) (hE.2.2.2.2.2.1.1 _ hC).2 ⟨cell, g1, g2, g3⟩ d k1
          · exact va_instY hE.1 hE.2.1 hE.2.2.2.1 (hE.2.2.2.2.1 _ hl) (hE.2.2.2.2.2.1.2.2.1 _ hcast rfl) ⟨cell, g1, g2, g3⟩ d k1
        · have hn : xcl t a ∈ ns := by rcases List.mem_append.mp hc with q | q; exact absurd q hy; exact q
          obtain ⟨h0, h1, C, T, N, hC, hcast⟩ := h2 _ hn
          obtain ⟨cell, g1, g2, g3, -, -⟩ := xrecv hE.2.2.2.2.2.1 hR rfl hC h0 h1
          dsimp only at k1
          rw [if_neg hy] at k1
          exact va_instNo hE.1 hE.2.1 hE.2.2.2.1 (hE.2.2.2.2.1 _ hl) (hE.2.2.2.2.2.1.2.2.2.2.1 _ hcast) ⟨cell, g1, g2, g3⟩ d k1
      · cases hf
    · cases hf
end OKF
