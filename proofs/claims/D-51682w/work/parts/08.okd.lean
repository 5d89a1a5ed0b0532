/-! nest mates' fields, new cells, arrays -/
set_option maxRecDepth 100000
section OKD
variable {z : XKT} {own : String} {cc : ByteArray} {nL : Nat} {ini : String × String} {pc : Nat} {f : XSem}
theorem xputN {p : Program} {l : Launch} {e : Env} {R : Room} {s : State} {m : MethodId} {args : Array Value} {below : List Frame} {meth : Method} {c : Code} {H : Heap} {locs : List Loc} {cells slots : Nat} {Q : State → Prop} {ls : Array Slot} {t t1 : XSt} {a : Nat} {v : Value} {r : List Value} {i f : Nat} {b : Bool} {ref name desc host : String} {cN : Nat} {C : String} {T : u_T} {N k9 : Nat} {ty : Nat → FieldType}
    (hE : XEn z own cc nL ini p l s m args meth c) (hR : XRp z t H) (hS : XSm z s.heap H) (d : decode cc pc = .ok (.putfield i, 3))
    (hl : Cond.fieldLinkNest own i ref name desc host ∈ lw_tbl) (hF : XFd ref name desc f b cN C T N k9) (p1 : ∀ k, k < N → parseFieldDescriptor (T k).2.2.1 = some (ty k)) (p2 : ∀ a, a < N → ∀ b, b < N → a ≠ b → (T a).2.1 ≠ (T b).2.1) (hfin : (T k9).2.2.2 = false) (ha : z.1 ≤ a) (hc : xcl t a = cN) (hn : narrow (ty k9) v = v) (hfit : fits (ty k9) v = true)
    (hcl : xcl t1 = xcl t) (hln : xln t1 = xln t) (hai : xai t1 = xai t) (haj : xaj t1 = xaj t) (har : xar t1 = xar t) (hnx : xnx t1 = xnx t)
    (hv : xfv t1 cN k9 a = v) (ho : ∀ c9 k9 b9 f9 d9, (xFl c9)[k9]? = some (f9, d9) → ¬ (b9 = a ∧ f9 = f) → xfv t1 c9 k9 b9 = xfv t c9 k9 b9)
    (k : ∀ (H1 : Heap) (L : List Loc), XRp z t1 H1 → XSm z s.heap H1 → (∀ x ∈ L, z.1 ≤ x.base) → W p l e R s m args below meth c H1 (locs ++ L) cells slots Q (F0 m (pc + 3) ls r)) : W p l e R s m args below meth c H locs cells slots Q (F0 m pc ls (v :: .ref a :: r)) := by
  obtain ⟨cf, fi, kf, fd, hi, hst, hsl, hi0⟩ := hF.found hE.2.2.2.2.2.1 hE.2.2.2.2.1
  obtain ⟨h1, h2, h3, h4, h5, h6, h7, h8, h9, h10⟩ := hF
  obtain ⟨cell, q1, q2, q3, q4, q5, q6⟩ := hR.ob hc h9 h10
  obtain ⟨hSl, hfc, kC, hkC, hkind⟩ := hE.2.2.2.2.2.1.1 _ h1
  have hap := xapart (own := own) hE.2.2.2.2.2.1 hE.2.2.2.2.1 h1 h7 ty p1 p2
  rw [h3] at hap
  have hlt : fd.slot < cell.slots.size := by rw [hsl]; exact k2_hasslot (q6 k9 (by rw [← h3]; exact h2))
  have hlay := hE.2.2.2.2.1 _ (h7 _ (u_in_lay h2))
  unfold u_lay at hlay
  rw [if_neg (by rw [hfin]; decide)] at hlay
  have h66 := u_store hfc hkC hkind hlay hi0 (p1 k9 h2) hn hfit
  refine va_WputK hE.1 hE.2.1 (f := fd) hE.2.2.2.1 (va_Nw.use rfl (hE.2.2.2.2.2.1.2.2.1 _ hl rfl)) hi hst (by rw [q2]; exact h66) q1 (q5 ha) hlt rfl rfl d fun H1 e1 e2 e3 => ?_
  rw [hsl] at e1
  exact k H1 _ (hR.fld hc h9 h10 h6 hap q1 e1 e2 e3 hcl hln hai haj har hnx hv ho) (hS.wr ha e2 e3) (fun x hx => by rw [List.mem_singleton.mp hx]; exact ha)
theorem ok_putiN {i f : Nat} {ref name desc host : String} {cs : List Nat} {ty : FieldType} (d : decode cc pc = .ok (.putfield i, 3)) (hl : Cond.fieldLinkNest own i ref name desc host ∈ lw_tbl) (hty : xtyok ty = true) (h : ∀ c ∈ cs, ∃ C T N k tys, XFd ref name desc f true c C T N k ∧ XFp own ("", "") C T N k tys ∧ tys k = ty) : XOkS z own cc nL ini pc (i_puti z.1 cs ty f (pc + 3)) :=
  XOkS.w fun {al st t q} hf => by
    unfold i_puti at hf
    split at hf
    · split at hf
      · rename_i x a r hc
        cases hf
        refine ⟨rfl, rfl, rfl, fun hE hR hS hL _ _ k => ?_⟩
        obtain ⟨C, T, N, k9, tys, hF, ⟨p1, p2, p3⟩, ht⟩ := h _ hc.2.1
        obtain ⟨f1, f2⟩ := xtyok_fit hty hc.2.2
        rw [← ht] at f1 f2
        exact xputN (t1 := xsfi t f a x) hE hR hS d hl hF p1 p2 (by rcases p3 with h | ⟨_, h, _⟩; exact h; exact absurd h (by decide)) hc.1 rfl f1 f2 rfl rfl rfl rfl rfl rfl (by rw [hF.slot, if_pos rfl, xfi_xsfi, if_pos ⟨rfl, rfl⟩]; rfl) (fun c9 k9 b9 f9 d9 hk9 hn => xfv_fi hk9 hn) k
      · cases hf
    · cases hf
theorem ok_putrN {i f : Nat} {ref name desc host : String} {cs : List Nat} (d : decode cc pc = .ok (.putfield i, 3)) (hl : Cond.fieldLinkNest own i ref name desc host ∈ lw_tbl) (h : ∀ c ∈ cs, ∃ C T N k tys, XFd ref name desc f false c C T N k ∧ XFp own ("", "") C T N k tys ∧ ((∃ n, tys k = .object n) ∨ ∃ t, tys k = .array t)) : XOkS z own cc nL ini pc (i_putr z.1 cs f (pc + 3)) :=
  XOkS.w fun {al st t q} hf => by
    unfold i_putr at hf
    split at hf
    · split at hf
      · rename_i x a r hc
        cases hf
        refine ⟨rfl, rfl, rfl, fun hE hR hS hL _ _ k => ?_⟩
        obtain ⟨C, T, N, k9, tys, hF, ⟨p1, p2, p3⟩, ht⟩ := h _ hc.2
        obtain ⟨f1, f2⟩ := va_rf_fit (o := x) ht
        exact xputN (t1 := xsfr t f a x) hE hR hS d hl hF p1 p2 (by rcases p3 with h | ⟨_, h, _⟩; exact h; exact absurd h (by decide)) hc.1 rfl f1 f2 rfl rfl rfl rfl rfl rfl (by rw [hF.slot, if_neg (by decide), xfr_xsfr, if_pos ⟨rfl, rfl⟩]; rfl) (fun c9 k9 b9 f9 d9 hk9 hn => xfv_fr hk9 hn) k
      · cases hf
    · cases hf
/-- one cell comes -/
theorem XOkS.n (n : XSt → XL → XS → Nat) (h : ∀ {al : XL} {st : XS} {t : XSt} {q : Nat × XL × XS × XSt}, f al st t = some q → q.2.1 = al ∧ xnx q.2.2.2 = xnx t + 1 ∧ xus q.2.2.2 = xus t + n t al st ∧ ∀ {p : Program} {l : Launch} {e : Env} {R : Room} {s : State} {m : MethodId} {args : Array Value} {below : List Frame} {meth : Method} {c : Code} {H : Heap} {locs : List Loc} {cells slots : Nat} {Q : State → Prop} {ls : Array Slot},
    XEn z own cc nL ini p l s m args meth c → XRp z t H → XSm z s.heap H → cells + 1 ≤ R.cells → slots + n t al st ≤ R.slots → 8 ≤ R.frames → 4000 ≤ R.locals → ls.size = nL →
    (∀ (H1 : Heap), XRp z q.2.2.2 H1 → H1.size = H.size + 1 → (∀ x, x < H.size → H1[x]? = H[x]?) → W p l e R s m args below meth c H1 locs (cells + 1) (slots + n t al st) Q (F0 m q.1 ls (vcs q.2.2.1))) → W p l e R s m args below meth c H locs cells slots Q (F0 m pc ls (vcs st))) : XOkS z own cc nL ini pc f := by
  refine ⟨fun hf => ?_, fun {p l e R s m args below meth c H locs cells slots Q ls al st t q} hE hf hR hS hL h1 h2 h3 h4 k => ?_⟩
  · obtain ⟨-, e1, e2, -⟩ := h hf
    omega
  · obtain ⟨e0, e1, e2, k1⟩ := h hf
    have e3 : xnx q.2.2.2 - xnx t = 1 := by omega
    have e4 : xus q.2.2.2 - xus t = n t al st := by omega
    rw [e3] at h1
    rw [e4] at h2
    refine k1 hE hR hS h1 h2 h3 h4 hL.1 fun H1 hR1 hz ho => ?_
    have hS1 : XSm z s.heap H1 := hS.tr ⟨by omega, fun x hx => ho x (by have := hR.2.1; have := hR.size; omega)⟩
    have k2 := k H1 ls [] hR1 hS1 (by rw [e0]; exact hL) (fun _ q => absurd q List.not_mem_nil)
    rw [e3, e4, List.append_nil] at k2
    exact k2
def xit (ty : FieldType) : Bool := match ty with
  | .int => true
  | .boolean => true
  | .byte => true
  | .char => true
  | .short => true
  | _ => false
def xrt (ty : FieldType) : Bool := match ty with
  | .object _ => true
  | .array _ => true
  | _ => false
theorem xit_d {ty : FieldType} (h : xit ty = true) : defaultValue ty = .int 0 := by
  cases ty <;> first | rfl | (simp [xit] at h)
theorem xrt_d {ty : FieldType} (h : xrt ty = true) : defaultValue ty = .null := by
  cases ty <;> first | rfl | (simp [xrt] at h)
def xdf (l : List (Nat × Bool)) (N : Nat) (ty : Nat → FieldType) : Bool := (List.range N).all fun k => match l[k]? with
  | some (_, true) => xit (ty k)
  | some (_, false) => xrt (ty k)
  | none => false
theorem xSv_new {t t1 : XSt} {b : Nat} (hb : b ≠ xnx t) (hcl : ∀ x, x ≠ xnx t → xcl t1 x = xcl t x) (hln : ∀ x, x ≠ xnx t → xln t1 x = xln t x) (hfi : ∀ f x, x ≠ xnx t → xfi t1 f x = xfi t f x) (hfr : ∀ f x, x ≠ xnx t → xfr t1 f x = xfr t f x)
    (hai : ∀ x, x ≠ xnx t → xai t1 x = xai t x) (haj : ∀ x, x ≠ xnx t → xaj t1 x = xaj t x) (har : ∀ x, x ≠ xnx t → xar t1 x = xar t x) : xSv t t1 b := by
  refine ⟨hcl b hb, hln b hb, fun k => ?_, fun j => ?_, hai b hb⟩
  · unfold xfv
    cases hk : (xFl (xcl t b))[k]? with
    | none => rfl
    | some q =>
      obtain ⟨f, d⟩ := q
      cases d with
      | true => show Value.int (xfi t1 f b) = Value.int (xfi t f b); rw [hfi f b hb]
      | false => show va_rf (xfr t1 f b) = va_rf (xfr t f b); rw [hfr f b hb]
  · simp only [xev, hai b hb, haj b hb, har b hb]
theorem xSv_xnew {t : XSt} {c n b : Nat} (hb : b ≠ xnx t) : xSv t (xnew t c n) b :=
  xSv_new hb (fun x h => by rw [xcl_xnew, if_neg h]) (fun x h => rfl) (fun f x h => by rw [xfi_xnew, if_neg h]) (fun f x h => by rw [xfr_xnew, if_neg h]) (fun x h => rfl) (fun x h => rfl) (fun x h => rfl)
theorem ok_new {i c n N : Nat} {C : String} {T : u_T} {ty : Nat → FieldType} (d : decode cc pc = .ok (.new i, 3)) (h1 : Cond.classLink own i C ∈ lw_all) (h2 : Cond.instantiable C n ∈ lw_all) (h3 : Cond.initialized C ∈ lw_all) (hC : (c, C, T, N) ∈ xCls) (hN : N = (xFl c).length) (hin : ∀ w ∈ u_ws C T N, w ∈ lw_all) (hty : ∀ k, k < N → parseFieldDescriptor (T k).2.2.1 = some (ty k)) (hdf : xdf (xFl c) N ty = true) (h0 : c ≠ 0) (h1000 : c < 1000) : XOkS z own cc nL ini pc (i_new c n (pc + 3)) :=
  XOkS.n (fun _ _ _ => n) fun {al st t q} hf => by
    cases hf
    refine ⟨rfl, rfl, rfl, fun {p l e R s m args below meth cd H locs cells slots Q ls} hE hR hS hc hs _ _ _ k => ?_⟩
    have hKn := hE.2.2.2.2.2.1.1 _ hC
    refine W.newcK hE.1 hE.2.1 hE.2.2.2.1 (hE.2.2.2.2.1 _ h1) (hE.2.2.2.2.1 _ h2) (hE.2.2.2.2.1 _ h3) rfl d hc hs hKn.2.1 rfl fun H1 kC hkC e1 z1 o1 => ?_
    have hsz := hR.size
    have e1' := e1
    rw [hsz] at e1'
    obtain ⟨cell, b1, b2, b3, b4⟩ := u_born ty hE.2.2.2.2.1 hin hKn hkC e1' hty
    have k2 := k H1 (hR.push (t1 := xnew t c n) z1 o1 rfl (fun b hb => xSv_xnew hb) ?_) z1 o1
    · have e9 : (Value.ref H.size : Value) = .ref (xnx t) := by rw [hsz]
      show W _ _ _ _ _ _ _ _ _ _ _ _ _ _ _ (F0 _ _ _ (Value.ref H.size :: vcs st))
      rw [e9]
      exact k2
    · intro _
      have hcl : xcl (xnew t c n) (xnx t) = c := by rw [xcl_xnew, if_pos rfl]
      rw [hcl]
      refine ⟨Nat.lt_succ_self _, fun _ => ⟨cell, b1, b2, by rw [b3]; exact (fun q => nomatch q), by rw [b3]; rfl, fun _ => b3, fun k9 hk9 => ?_⟩, fun q => by omega⟩
      have hk9' : k9 < N := by rw [hN]; exact hk9
      rw [b4 k9 hk9']
      have h9 := List.all_eq_true.mp hdf k9 (List.mem_range.mpr hk9')
      refine congrArg some (?_ : defaultValue (ty k9) = xfv (xnew t c n) c k9 (xnx t))
      unfold xfv
      cases hq : (xFl c)[k9]? with
      | none => rw [hq] at h9; cases h9
      | some q =>
        obtain ⟨f, b⟩ := q
        rw [hq] at h9
        cases b with
        | true => rw [xit_d h9]; show Value.int 0 = Value.int (xfi (xnew t c n) f (xnx t)); rw [xfi_xnew, if_pos rfl]
        | false => rw [xrt_d h9]; show Value.null = va_rf (xfr (xnew t c n) f (xnx t)); rw [xfr_xnew, if_pos rfl]; rfl
theorem XKn.arr {s : State} (h : XKn z s) {c : Nat} {ty : FieldType} (hc : (c, ty) ∈ xArs) {cell : Cell} (hcl : cell.cls = xaC z c) (hst : cell.vm.isStatics = false) : s.isArrayOf cell ty := by
  obtain ⟨-, k, hk, comp, hkd⟩ := (h.2.1 _ hc).1 0 (fun _ => .null)
  exact ⟨(fun q hq => by rw [hq] at hst; exact nomatch hst), k, (by rw [hcl]; exact hk), comp, hkd⟩
theorem xSv_xnai {t : XSt} {c n b : Nat} (hb : b ≠ xnx t) : xSv t (xnai t c n) b :=
  xSv_new hb (fun x h => by rw [xcl_xnai, if_neg h]) (fun x h => by rw [xln_xnai, if_neg h]) (fun f x h => rfl) (fun f x h => rfl) (fun x h => by funext j; rw [xai_xnai, if_neg h]) (fun x h => rfl) (fun x h => rfl)
theorem xSv_xnaj {t : XSt} {c n b : Nat} (hb : b ≠ xnx t) : xSv t (xnaj t c n) b :=
  xSv_new hb (fun x h => by rw [xcl_xnaj, if_neg h]) (fun x h => by rw [xln_xnaj, if_neg h]) (fun f x h => rfl) (fun f x h => rfl) (fun x h => rfl) (fun x h => by funext j; rw [xaj_xnaj, if_neg h]) (fun x h => rfl)
theorem xSv_xnar {t : XSt} {c n b : Nat} (hb : b ≠ xnx t) : xSv t (xnar t c n) b :=
  xSv_new hb (fun x h => by rw [xcl_xnar, if_neg h]) (fun x h => by rw [xln_xnar, if_neg h]) (fun f x h => rfl) (fun f x h => rfl) (fun x h => rfl) (fun x h => rfl) (fun x h => by funext j; rw [xar_xnar, if_neg h])
/-- a new array is known -/
theorem XRp.newa {t t1 : XSt} {H H1 : Heap} {c n : Nat} {v : Value} (hR : XRp z t H) (z1 : H1.size = H.size + 1) (o1 : ∀ q, q < H.size → H1[q]? = H[q]?) (e1 : H1[xnx t]? = some (arrV (xaC z c) n (fun _ => v))) (hn : xnx t1 = xnx t + 1) (hv : ∀ b, b ≠ xnx t → xSv t t1 b) (hc : xcl t1 (xnx t) = c) (h1000 : 1000 ≤ c) (hl : xln t1 (xnx t) = n) (he : ∀ j, xev t1 c (xnx t) j = v) (hb : c = 1001 → v = .int 0 ∧ ∀ j, xai t1 (xnx t) j = 0) : XRp z t1 H1 := by
  refine hR.push z1 o1 hn hv fun _ => ?_
  rw [hc, hl]
  refine ⟨by omega, fun q => by omega, fun _ => ⟨⟨_, e1, rfl, (fun q => nomatch q), rfl, fun _ => arrV_congr (fun j _ => (he j).symm), arrV_size _ _ _, fun j hj => ?_⟩, fun q j _ => ?_⟩⟩
  · rw [arrV_read _ _ hj]
    exact congrArg some (he j).symm
  · rw [(hb q).2 j]; decide
theorem xra {s : State} {c : Nat} {ty : FieldType} {cA : ClassId} (h : XKn z s) (hc : (c, ty) ∈ xArs) (ho : ∀ n, ty ≠ .object n) (hf : s.vm.findClass ("[" ++ ty.toString) = some cA) : cA = xaC z c := by
  have h2 := (h.2.1 _ hc).2
  cases ty with
  | object n => exact absurd rfl (ho n)
  | _ => exact Option.some.inj (hf.symm.trans h2)
theorem ok_nai {at9 : ArrayType} {c : Nat} {ty : FieldType} (d : decode cc pc = .ok (.newarray at9, 2)) (h1 : Cond.arrayClass ty ∈ lw_all) (hty : newarray.typeOf at9 = ty) (hc : (c, ty) ∈ xArs) (h2 : ty = .int ∨ ty = .byte) (h1000 : 1000 ≤ c) (hne : c ≠ 1002) (hlt : c < 1003) : XOkS z own cc nL ini pc (i_nai c (pc + 2)) :=
  XOkS.n (fun _ _ st => match st with | Sum.inl x :: _ => x.toNatClampNeg | _ => 0) fun {al st t q} hf => by
    unfold i_nai at hf
    split at hf
    · split at hf
      · rename_i x r hx
        cases hf
        refine ⟨rfl, rfl, rfl, fun {p l e R s m args below meth cd H locs cells slots Q ls} hE hR hS hcl hs _ _ _ k => ?_⟩
        subst hty
        have hsz := hR.size
        refine W.newa hE.1 hE.2.1 (hE.2.2.2.2.1 _ h1) rfl d rfl hx.1 (by rcases h2 with e | e <;> rw [e] <;> show _ * _ ≤ _ <;> (try simp only [componentBytes]) <;> omega) hcl hs fun cA kA comp f1 f2 f3 => ?_
        have hcA : cA = xaC z c := xra hE.2.2.2.2.2.1 hc (fun n q => by rcases h2 with e | e <;> rw [e] at q <;> cases q) f1
        have hdv : defaultValue (newarray.typeOf at9) = .int 0 := by rcases h2 with e | e <;> rw [e] <;> rfl
        rw [arrV_new, hcA, hdv]
        have z1 : (H.push (arrV (xaC z c) x.toNatClampNeg fun _ => .int 0)).size = H.size + 1 := by rw [Array.size_push]
        have o1 : ∀ q : Nat, q < H.size → (H.push (arrV (xaC z c) x.toNatClampNeg fun _ => .int 0))[q]? = H[q]? := fun q hq => by rw [Array.getElem?_push, if_neg (Nat.ne_of_lt hq)]
        have e1 : (H.push (arrV (xaC z c) x.toNatClampNeg fun _ => .int 0))[xnx t]? = some (arrV (xaC z c) x.toNatClampNeg fun _ => .int 0) := by rw [← hsz, Array.getElem?_push_size]
        have k2 := k _ (hR.newa (t1 := xnai t c x.toNatClampNeg) z1 o1 e1 rfl (fun b hb => xSv_xnai hb) (by rw [xcl_xnai, if_pos rfl]) h1000 (by rw [xln_xnai, if_pos rfl]) (fun j => by unfold xev; rw [if_neg hne, if_pos hlt, xai_xnai, if_pos rfl]) (fun _ => ⟨rfl, fun j => by rw [xai_xnai, if_pos rfl]⟩)) z1 o1
        have e9 : (Value.ref H.size : Value) = .ref (xnx t) := by rw [hsz]
        show W _ _ _ _ _ _ _ _ _ _ _ _ _ _ _ (F0 _ _ _ (Value.ref H.size :: vcs r))
        rw [e9]
        exact k2
      · cases hf
    · cases hf
end OKD
