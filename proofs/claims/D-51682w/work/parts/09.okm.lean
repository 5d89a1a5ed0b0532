/-! lambdas: made, stored, called -/
set_option maxRecDepth 100000
section OKL
/-! lambdas made -/
theorem xlam_at {z : XKT} {own : String} {cc : ByteArray} {nL : Nat} {ini : String × String} {p : Program} {l : Launch} {s : State} {m : MethodId} {args : Array Value} {meth : Method} {c : Code} {pc index code : Nat} {sh : Lambda.Shape} {one : Option Nat} (hE : XEn z own cc nL ini p l s m args meth c) (h : (⟨own, ini.1, ini.2⟩, pc, index, sh, code, one) ∈ xLms) :
    ∃ (k : Class) (cf : ClassFile) (i0 p0 : Nat), s.vm.classes[m.cls]? = some k ∧ k.cf = some cf ∧ Lambda.shapeOf? cf index = some sh ∧ (k.callSites.find? fun y => y.1 == m.idx && y.2.1 == pc) = some (i0, p0, (match one.map z.2.1 with | some a => .constant a | none => .makes (xdC z code))) ∧ Lambda.isMade { classPath := fun _ => none } s.vm m.cls sh (xdC z code) = true ∧ s.lambdaCallable sh (xdC z code) = true := by
  obtain ⟨m', k, cf, i0, p0, l9, hm, hk, hcf, hsh, hfind, hmade, hcall, hl⟩ := (hE.2.2.2.2.2.1.2.2.2.2.2.2.2.2.2 _ h).1
  have hmm : m' = m := Option.some.inj (hm.symm.trans hE.2.2.2.2.2.2.2.2.2.2)
  subst hmm
  rw [hl] at hfind
  exact ⟨k, cf, i0, p0, hk, hcf, hsh, hfind, hmade, hcall⟩
theorem ok_lam0 {z : XKT} {own : String} {cc : ByteArray} {nL : Nat} {ini : String × String} {pc index code j : Nat} {sh : Lambda.Shape} (d : decode cc pc = .ok (.invokedynamic index, 5)) (h : (⟨own, ini.1, ini.2⟩, pc, index, sh, code, some j) ∈ xLms) : XOkS z own cc nL ini pc (i_lam0 (z.2.1 j) (pc + 5)) :=
  XOkS.p fun {al st t q} hf => by
    unfold i_lam0 at hf
    split at hf
    · rename_i hw
      cases hf
      refine ⟨rfl, fun {p l e R s m args below meth c H locs cells slots Q ls} hE _ _ hL hfr hlo k => ?_⟩
      obtain ⟨kc, cf, i0, p0, hk, hcf, hsh, hfind, -, -⟩ := xlam_at hE h
      intro T hT X
      obtain ⟨t9, a1, b1⟩ := k _ hL T hT X
      have hlw : e.platform.lambdaLinkWords = 3072 := by rw [X.admits.platform]
      exact ⟨t9, X.lambdaConstant hE.1 (g := F0 m pc ls (vcs st)) rfl (by rw [hE.2.2.1]; exact hL.1) (index := index) (by rw [hE.2.1]; exact d) hk hfind (by rw [hlw]; show 2 * 0 + ((vcs st).map fun v => v.category).sum + 3072 ≤ R.locals; rw [vcs_sum]; omega) a1, b1⟩
    · cases hf
theorem xsfs_spec : ∀ (fs : List Nat) (vs : List XV) (t t1 : XSt) (a : Nat), xsfs t a fs vs = some t1 → xcl t1 = xcl t ∧ xln t1 = xln t ∧ xfr t1 = xfr t ∧ xai t1 = xai t ∧ xaj t1 = xaj t ∧ xar t1 = xar t ∧ xnx t1 = xnx t ∧ xus t1 = xus t ∧ (∀ f b, ¬ (b = a ∧ f ∈ fs) → xfi t1 f b = xfi t f b) ∧
    ∃ xs : List Int32, vs = xs.map vI ∧ xs.length = fs.length ∧ (fs.Nodup → ∀ (k f : Nat), fs[k]? = some f → xs[k]? = some (xfi t1 f a))
  | [], [], t, t1, a, h => by cases h; exact ⟨rfl, rfl, rfl, rfl, rfl, rfl, rfl, rfl, fun _ _ _ => rfl, [], rfl, rfl, fun _ k f hk => by cases hk⟩
  | f0 :: fs, Sum.inl x :: vs, t, t1, a, h => by
    have h' : xsfs (xsfi t f0 a x) a fs vs = some t1 := h
    obtain ⟨e1, e2, e3, e4, e5, e6, e7, e8, e9, xs, b1, b2, b3⟩ := xsfs_spec fs vs _ t1 a h'
    refine ⟨e1, e2, e3, e4, e5, e6, e7, e8, fun f b hn => ?_, x :: xs, by rw [b1]; rfl, by rw [List.length_cons, List.length_cons, b2], fun hnd k f hk => ?_⟩
    · rw [e9 f b (fun q => hn ⟨q.1, List.mem_cons_of_mem _ q.2⟩), xfi_xsfi, if_neg (fun q => hn ⟨q.2, by rw [q.1]; exact List.mem_cons_self⟩)]
    · obtain ⟨hn0, hnd'⟩ := List.nodup_cons.mp hnd
      cases k with
      | zero =>
        cases hk
        rw [e9 f0 a (fun q => hn0 q.2), xfi_xsfi, if_pos ⟨rfl, rfl⟩]
        rfl
      | succ k => exact b3 hnd' k f hk
  | [], _ :: _, _, _, _, h => by cases h
  | _ :: _, [], _, _, _, h => by cases h
  | _ :: _, Sum.inr _ :: _, _, _, _, h => by cases h
theorem xmade_types {e : Setting} {s : State} {args : Array Value} {d c : ClassId} {σ : Lambda.Shape} {dk : Class} {T : Array FieldType} (h : Lambda.isMade e s.vm d σ c = true) (hd : s.vm.classes[d]? = some dk)
    (hO : (Cond.instantiable "java/lang/Object" 0).before args s = true) (hlay : ((σ.file dk.name).bind (fun D => layoutFields D 0)).map (fun y => y.2.1) = some T) : ∃ k, s.vm.classes[c]? = some k ∧ k.instanceTypes = T ∧ k.kind = .ordinary := by
  obtain ⟨dk', k, ok, tk, file, cf, object, iface, t, lay, methods, target, found, h1, h2, -, h4, h5, -, h7, h8, -, -, -, -, -, ⟨-, hkind, -⟩, -, -, -, -, -, -, -, ⟨hty, -⟩, -⟩ := Lambda.isMade_spec h
  cases hd.symm.trans h1
  obtain ⟨cO, kO, hfO, hkO, -, -, -, hsz⟩ := Cond.instantiable_spec hO
  cases hfO.symm.trans h5
  cases hkO.symm.trans h7
  have hemp : ok.instanceTypes = #[] := Array.eq_empty_of_size_eq_zero hsz
  rw [h4, Option.bind_some] at hlay
  rw [hsz] at h8
  rw [h8, Option.map_some] at hlay
  cases hlay
  exact ⟨k, h2, by rw [hty, hemp]; simp, hkind⟩
theorem xm3 {α : Type} {x : Array Nat} {f : Nat → Nat → Nat → Option α} {r : α} (h : Lambda.shapeOf?.match_15 (fun _ => Option α) x f (fun _ => none) = some r) : ∃ a0 a1 a2, f a0 a1 a2 = some r := by
  obtain ⟨L⟩ := x
  match L, h with
  | [], h => cases h
  | [_], h => cases h
  | [_, _], h => cases h
  | [a, b, c], h => exact ⟨a, b, c, h⟩
  | _ :: _ :: _ :: _ :: _, h => cases h
theorem xshape {cf : ClassFile} {index : Nat} {σ : Lambda.Shape} (h : Lambda.shapeOf? cf index = some σ) :
    ∃ (b nt : Nat) (desc : String) (site : MethodDescriptor), cf.constantPool[index]? = some (.invokeDynamic b nt) ∧ cf.constantPool.nameAndType? nt = some (σ.name, desc) ∧ parseMethodDescriptor desc = some site ∧ site.parameters = σ.captured := by
  unfold Lambda.shapeOf? at h
  split at h
  · rename_i b nt hc
    obtain ⟨entries, -, h⟩ := Option.bind_eq_some_iff.mp h
    obtain ⟨bm, -, h⟩ := Option.bind_eq_some_iff.mp h
    split at h
    · obtain ⟨_, -, h⟩ := Option.bind_eq_some_iff.mp h
      obtain ⟨a0, a1, a2, h⟩ := xm3 h
      · split at h
        · split at h
          · split at h
            · obtain ⟨⟨name, desc⟩, hnt, h⟩ := Option.bind_eq_some_iff.mp h
              obtain ⟨site, hsite, h⟩ := Option.bind_eq_some_iff.mp h
              split at h
              · obtain ⟨⟨implClass, implName, implDesc, implItf⟩, -, h⟩ := Option.bind_eq_some_iff.mp h
                obtain ⟨x1, -, h⟩ := Option.bind_eq_some_iff.mp h
                obtain ⟨x2, -, h⟩ := Option.bind_eq_some_iff.mp h
                obtain ⟨x3, -, h⟩ := Option.bind_eq_some_iff.mp h
                obtain ⟨x4, -, h⟩ := Option.bind_eq_some_iff.mp h
                obtain ⟨x5, -, h⟩ := Option.bind_eq_some_iff.mp h
                cases h
                exact ⟨b, nt, desc, site, hc, hnt, hsite, rfl⟩
              · cases h
            · cases h
          · cases h
        · cases h
    · cases h
  · cases h
theorem xzip (xs : List Int32) : (((Array.replicate xs.length FieldType.int).toList.zip (vcs (xs.map vI))).map fun (t, v) => narrow t v) = xs.map Value.int := by
  rw [Array.toList_replicate]
  induction xs with
  | nil => rfl
  | cons x r ih =>
    have e : ((List.replicate (r.length + 1) FieldType.int).zip (vcs ((x :: r).map vI))).map (fun (t, v) => narrow t v) = Value.int x :: ((List.replicate r.length FieldType.int).zip (vcs (r.map vI))).map (fun (t, v) => narrow t v) := rfl
    exact e.trans (by rw [ih]; rfl)
theorem ok_lam {z : XKT} {own : String} {cc : ByteArray} {nL : Nat} {ini : String × String} {pc index code : Nat} {sh : Lambda.Shape} {fs : List Nat} (d : decode cc pc = .ok (.invokedynamic index, 5)) (h : (⟨own, ini.1, ini.2⟩, pc, index, sh, code, none) ∈ xLms)
    (hO : Cond.instantiable "java/lang/Object" 0 ∈ lw_all) (hF : xFl code = fs.map fun f => (f, true)) (hnd : fs.Nodup) (hln : fs.length ≤ 8) (hcap : sh.captured.length = fs.length) (hlay : ((sh.file own).bind (fun D => layoutFields D 0)).map (fun y => y.2.1) = some (Array.replicate fs.length .int)) (h0 : code ≠ 0) (h1 : code < 1000) : XOkS z own cc nL ini pc (i_lam code fs (pc + 5)) := by
  have spec : ∀ {al : XL} {st : XS} {t : XSt} {q : Nat × XL × XS × XSt}, i_lam code fs (pc + 5) al st t = some q → ∃ (as : List XV) (r : XS) (t1 : XSt), xspl fs.length [] st = some (as, r) ∧ xwd r ≤ 8 ∧ xsfs (xnew t code fs.length) (xnx t) fs as = some t1 ∧ q = (pc + 5, al, vR (some (xnx t)) :: r, t1) := by
    intro al st t q hf
    obtain ⟨⟨as, r⟩, e1, e2⟩ := Option.bind_eq_some_iff.mp hf
    dsimp only at e2
    split at e2
    · rename_i hw
      obtain ⟨t1, e3, e4⟩ := Option.map_eq_some_iff.mp e2
      exact ⟨as, r, t1, e1, hw, e3, e4.symm⟩
    · cases e2
  refine ⟨fun hf => ?_, fun {p l e R s m args below meth c H locs cells slots Q ls al st t q} hE hf hR hS hL g1 g2 hfr hlo k => ?_⟩
  · obtain ⟨as, r, t1, -, -, e3, rfl⟩ := spec hf
    obtain ⟨-, -, -, -, -, -, e7, e8, -⟩ := xsfs_spec _ _ _ _ _ e3
    dsimp only
    rw [e7, e8, xnx_xnew, xus_xnew]
    omega
  obtain ⟨as, r, t1, hsp, hw, e3, rfl⟩ := spec hf
  obtain ⟨s1, s2⟩ := xspl_st hsp
  obtain ⟨e1, e2, e4, e5, e6, e7, e8, e9, e10, xs, b1, b2, b3⟩ := xsfs_spec _ _ _ _ _ e3
  obtain ⟨kl, cf, i0, p0, hk, hcf, hsh, hfind, hmade, hcall⟩ := xlam_at hE h
  obtain ⟨b, nt, desc, site, hc, hnt, hsig, hcp⟩ := xshape hsh
  obtain ⟨k9, hk9, hkn⟩ := Vm.findClass_spec hE.2.2.2.1
  have hkk : k9 = kl := Option.some.inj (hk9.symm.trans hk)
  subst hkk
  obtain ⟨kc, hkc, hty, hkind⟩ := xmade_types (T := Array.replicate fs.length .int) (dk := k9) hmade hk (hE.2.2.2.2.1 _ hO) (by rw [hkn]; exact hlay)
  have hsl : ((kc.instanceTypes.toList.zip (vcs as)).map fun (t, v) => narrow t v) = xs.map Value.int := by
    rw [hty, b1, ← b2]
    exact xzip xs
  have n1 : xnx t1 - xnx t = 1 := by rw [e8, xnx_xnew]; omega
  have n2 : xus t1 - xus t = fs.length := by rw [e9, xus_xnew]; omega
  dsimp only at g1 g2 k
  rw [n1] at g1 k
  rw [n2] at g2 k
  intro T hT X
  have hlw : e.platform.lambdaLinkWords = 3072 := by rw [X.admits.platform]
  have hwst : xwd st ≤ 16 := by
    have q1 : ((vcs as).map fun v => v.category).sum = fs.length := by
      rw [b1, ← b2]
      clear b1 b2 b3 hsl
      induction xs with
      | nil => rfl
      | cons x r9 ih => show 1 + _ = _ + 1; rw [← ih]; exact Nat.add_comm _ _
    rw [← vcs_sum st, s2, List.map_append, List.sum_append, List.map_reverse, List.sum_reverse, q1, vcs_sum]
    omega
  obtain ⟨X', stp⟩ := X.lambdaMakes hE.1 (g := F0 m pc ls (vcs st)) rfl (by rw [hE.2.2.1]; exact hL.1) (index := index) (by rw [hE.2.1]; exact d) hk hfind hcf hc hnt (parseLong_of_parse hsig) (vals := vcs as) (rest := vcs r) (by rw [s1, hcp, hcap]) s2 hkc
    (by rw [hlw]; show 2 * 0 + ((vcs st).map fun v => v.category).sum + 3072 ≤ R.locals; rw [vcs_sum]; omega) g1 (by rw [hsl, List.length_map, b2]; exact g2) (fun i v hv => by
      rw [hsl] at hv
      simp only [List.getElem?_toArray, List.getElem?_map, Option.map_eq_some_iff] at hv
      obtain ⟨x, hx, rfl⟩ := hv
      have hi : i < fs.length := by rw [← b2]; exact (List.getElem?_eq_some_iff.mp hx).1
      simp [State.fitsSlot, State.slotType?, hkc, hkind, hty, hi, fits])
  sorry
end OKL
