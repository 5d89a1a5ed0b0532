/-! fields -/
set_option maxRecDepth 100000
theorem xFll_ok (c : Nat) : ∀ L : List (Nat × List (Nat × Bool)), L.all (fun q => xdist q.2) = true → xdist (xFll c L) = true
  | [], _ => rfl
  | q :: r, h => by
    simp only [List.all_cons, Bool.and_eq_true] at h
    unfold xFll
    cases hb : Nat.beq q.1 c with
    | true => exact h.1
    | false => exact xFll_ok c r h.2
theorem xdist_inj : ∀ (l : List (Nat × Bool)), xdist l = true → ∀ (i j f : Nat) (b d : Bool), l[i]? = some (f, b) → l[j]? = some (f, d) → i = j
  | [], _, i, j, f, b, d, h1, _ => by simp at h1
  | q :: r, h, i, j, f, b, d, h1, h2 => by
    simp only [xdist, Bool.and_eq_true] at h
    have key : ∀ (k : Nat) (g : Bool), r[k]? = some (q.1, g) → False := by
      intro k g hk
      have := List.all_eq_true.mp h.1 _ (List.mem_of_getElem? hk)
      simp at this
    cases i with
    | zero =>
      cases j with
      | zero => rfl
      | succ j =>
        simp only [List.getElem?_cons_zero, Option.some.injEq] at h1
        rw [List.getElem?_cons_succ] at h2
        subst h1
        exact (key j d h2).elim
    | succ i =>
      rw [List.getElem?_cons_succ] at h1
      cases j with
      | zero =>
        simp only [List.getElem?_cons_zero, Option.some.injEq] at h2
        subst h2
        exact (key i b h1).elim
      | succ j =>
        rw [List.getElem?_cons_succ] at h2
        rw [xdist_inj r h.2 i j f b d h1 h2]
theorem xFl_inj {c i j f : Nat} {b d : Bool} (h1 : (xFl c)[i]? = some (f, b)) (h2 : (xFl c)[j]? = some (f, d)) : i = j := xdist_inj _ (xFll_ok c _ xFlt_ok) i j f b d h1 h2
/-- the field f of the code c is the one of this name -/
def XFd (ref name desc : String) (f : Nat) (b : Bool) (c : Nat) (C : String) (T : u_T) (N k : Nat) : Prop :=
  (c, C, T, N) ∈ xCls ∧ k < N ∧ N = (xFl c).length ∧ (T k).2.1 = name ∧ (T k).2.2.1 = desc ∧ (xFl c)[k]? = some (f, b) ∧ (∀ w ∈ u_ws C T N, w ∈ lw_all) ∧ ((T k).1 = ref ∨ Cond.sameField ref (T k).1 name desc ∈ lw_all) ∧ c ≠ 0 ∧ c < 1000
theorem XFd.found {z : XKT} {s : State} {args : Array Value} {ref name desc : String} {f : Nat} {b : Bool} {c : Nat} {C : String} {T : u_T} {N k : Nat} (h : XFd ref name desc f b c C T N k) (hK : XKn z s) (hw : ∀ w ∈ lw_all, w.before args s = true) :
    ∃ (cf fi : Nat) (kf : Class) (fd : Field), s.fieldFound? ref name desc = some (cf, kf, fi, fd) ∧ fd.isStatic = false ∧ fd.slot = xdI z c k ∧ s.fieldFound? (T k).1 (T k).2.1 (T k).2.2.1 = some (cf, kf, fi, fd) := by
  obtain ⟨h1, h2, -, h4, h5, -, h7, h8, -, -⟩ := h
  obtain ⟨hS, hfc, kC, hkC, hkind⟩ := hK.1 _ h1
  obtain ⟨cf, kf, fi, fd, hi, hsl⟩ := hS k h2
  have hst := (u_facts hfc hkC (u_lays hw h7 h2) hi).1
  refine ⟨cf, fi, kf, fd, ?_, hst, hsl, hi⟩
  have hi2 := hi
  simp only [h4, h5] at hi2
  rcases h8 with e | e
  · rw [e] at hi2; exact hi2
  · exact u_same (hw _ e) _ hi2
section OKC
variable {z : XKT} {own : String} {cc : ByteArray} {nL : Nat} {ini : String × String} {pc : Nat} {f : XSem}
theorem XFd.slot {ref name desc : String} {f : Nat} {b : Bool} {c : Nat} {C : String} {T : u_T} {N k : Nat} (h : XFd ref name desc f b c C T N k) {t : XSt} {a : Nat} : xfv t c k a = if b = true then .int (xfi t f a) else va_rf (xfr t f a) := by
  unfold xfv
  rw [h.2.2.2.2.2.1]
  cases b <;> rfl
theorem ok_geti {i f : Nat} {ref name desc : String} {cs : List Nat} (d : decode cc pc = .ok (.getfield i, 3)) (hl : Cond.fieldLink own i ref name desc ∈ lw_all) (h : ∀ c ∈ cs, ∃ C T N k, XFd ref name desc f true c C T N k) : XOkS z own cc nL ini pc (i_geti cs f (pc + 3)) :=
  XOkS.p fun {al st t q} hf => by
    unfold i_geti at hf
    split at hf
    · split at hf
      · rename_i a r hc
        cases hf
        refine ⟨rfl, fun hE hR _ hL _ _ k => ?_⟩
        obtain ⟨C, T, N, k9, hF⟩ := h _ hc
        obtain ⟨cf, fi, kf, fd, hi, hst, hsl, -⟩ := hF.found hE.2.2.2.2.2.1 hE.2.2.2.2.1
        obtain ⟨cell, q1, q2, q3, q4, q5, q6⟩ := hR.ob rfl hF.2.2.2.2.2.2.2.2.1 hF.2.2.2.2.2.2.2.2.2
        exact W.getf hE.1 hE.2.1 hE.2.2.2.1 (hE.2.2.2.2.1 _ hl) hi hst q1 q3 (by rw [hsl, q6 k9 (by rw [← hF.2.2.1]; exact hF.2.1)]; exact congrArg some (hF.slot (t := t) (a := a))) rfl rfl d (k _ hL)
      · cases hf
    · cases hf
theorem ok_getr {i f : Nat} {ref name desc : String} {cs : List Nat} (d : decode cc pc = .ok (.getfield i, 3)) (hl : Cond.fieldLink own i ref name desc ∈ lw_all) (h : ∀ c ∈ cs, ∃ C T N k, XFd ref name desc f false c C T N k) : XOkS z own cc nL ini pc (i_getr cs f (pc + 3)) :=
  XOkS.p fun {al st t q} hf => by
    unfold i_getr at hf
    split at hf
    · split at hf
      · rename_i a r hc
        cases hf
        refine ⟨rfl, fun hE hR _ hL _ _ k => ?_⟩
        obtain ⟨C, T, N, k9, hF⟩ := h _ hc
        obtain ⟨cf, fi, kf, fd, hi, hst, hsl, -⟩ := hF.found hE.2.2.2.2.2.1 hE.2.2.2.2.1
        obtain ⟨cell, q1, q2, q3, q4, q5, q6⟩ := hR.ob rfl hF.2.2.2.2.2.2.2.2.1 hF.2.2.2.2.2.2.2.2.2
        exact W.getf hE.1 hE.2.1 hE.2.2.2.1 (hE.2.2.2.2.1 _ hl) hi hst q1 q3 (by rw [hsl, q6 k9 (by rw [← hF.2.2.1]; exact hF.2.1)]; exact congrArg some (hF.slot (t := t) (a := a))) rfl rfl d (k _ hL)
      · cases hf
    · cases hf
theorem ok_getiN {i f : Nat} {ref name desc host : String} {cs : List Nat} (d : decode cc pc = .ok (.getfield i, 3)) (hl : Cond.fieldLinkNest own i ref name desc host ∈ lw_tbl) (h : ∀ c ∈ cs, ∃ C T N k, XFd ref name desc f true c C T N k) : XOkS z own cc nL ini pc (i_geti cs f (pc + 3)) :=
  XOkS.p fun {al st t q} hf => by
    unfold i_geti at hf
    split at hf
    · split at hf
      · rename_i a r hc
        cases hf
        refine ⟨rfl, fun hE hR _ hL _ _ k => ?_⟩
        obtain ⟨C, T, N, k9, hF⟩ := h _ hc
        obtain ⟨cf, fi, kf, fd, hi, hst, hsl, -⟩ := hF.found hE.2.2.2.2.2.1 hE.2.2.2.2.1
        obtain ⟨cell, q1, q2, q3, q4, q5, q6⟩ := hR.ob rfl hF.2.2.2.2.2.2.2.2.1 hF.2.2.2.2.2.2.2.2.2
        exact va_Wgetf hE.1 hE.2.1 hE.2.2.2.1 (va_Nw.use rfl (hE.2.2.2.2.2.1.2.2.1 _ hl rfl)) hi hst q1 q3 (by rw [hsl, q6 k9 (by rw [← hF.2.2.1]; exact hF.2.1)]; exact congrArg some (hF.slot (t := t) (a := a))) rfl rfl d (k _ hL)
      · cases hf
    · cases hf
theorem ok_getrN {i f : Nat} {ref name desc host : String} {cs : List Nat} (d : decode cc pc = .ok (.getfield i, 3)) (hl : Cond.fieldLinkNest own i ref name desc host ∈ lw_tbl) (h : ∀ c ∈ cs, ∃ C T N k, XFd ref name desc f false c C T N k) : XOkS z own cc nL ini pc (i_getr cs f (pc + 3)) :=
  XOkS.p fun {al st t q} hf => by
    unfold i_getr at hf
    split at hf
    · split at hf
      · rename_i a r hc
        cases hf
        refine ⟨rfl, fun hE hR _ hL _ _ k => ?_⟩
        obtain ⟨C, T, N, k9, hF⟩ := h _ hc
        obtain ⟨cf, fi, kf, fd, hi, hst, hsl, -⟩ := hF.found hE.2.2.2.2.2.1 hE.2.2.2.2.1
        obtain ⟨cell, q1, q2, q3, q4, q5, q6⟩ := hR.ob rfl hF.2.2.2.2.2.2.2.2.1 hF.2.2.2.2.2.2.2.2.2
        exact va_Wgetf hE.1 hE.2.1 hE.2.2.2.1 (va_Nw.use rfl (hE.2.2.2.2.2.1.2.2.1 _ hl rfl)) hi hst q1 q3 (by rw [hsl, q6 k9 (by rw [← hF.2.2.1]; exact hF.2.1)]; exact congrArg some (hF.slot (t := t) (a := a))) rfl rfl d (k _ hL)
      · cases hf
    · cases hf
/-! writing a field -/
def xtyok (ty : FieldType) : Bool := match ty with
  | .int => true
  | .boolean => true
  | .byte => true
  | .char => true
  | _ => false
theorem xtyok_fit {ty : FieldType} (h : xtyok ty = true) {x : Int32} (hx : vp_nar ty x = x) : narrow ty (.int x) = .int x ∧ fits ty (.int x) = true := by
  cases ty with
  | int => exact ⟨rfl, rfl⟩
  | boolean =>
    have h1 : x &&& 1 = x := hx
    obtain ⟨k, hk⟩ : ∃ k, k = x.toBitVec.toNat % 2 ^ 1 := ⟨_, rfl⟩
    have h2 := pk_and x (m := 1) 1 (by decide)
    rw [h1, ← hk] at h2
    have h3 : k = 0 ∨ k = 1 := by omega
    rcases h3 with e | e <;> (rw [e] at h2; rw [h2]; decide)
  | byte =>
    have h1 : x.toInt8.toInt32 = x := hx
    exact ⟨by show Value.int x.toInt8.toInt32 = _; rw [h1], by have := pk_fb x; rw [h1] at this; exact this⟩
  | char =>
    have h1 : (x.toUInt32 % 65536).toInt32 = x := hx
    exact ⟨by show Value.int (x.toUInt32 % 65536).toInt32 = _; rw [h1], by
      have h2 := lg_i2c_toInt x
      rw [← lg_i2c_nf, h1] at h2
      have h3 : (0 : Int32).toInt = 0 := by decide
      have h4 : (65535 : Int32).toInt = 65535 := by decide
      simp only [fits, Bool.and_eq_true, decide_eq_true_eq, Int32.le_iff_toInt_le, h3, h4]
      omega⟩
  | _ => simp [xtyok] at h
def xnd (N : Nat) (T : u_T) : Prop := (∀ k, k < N → ∃ ty, parseFieldDescriptor (T k).2.2.1 = some ty) ∧ ∀ a, a < N → ∀ b, b < N → a ≠ b → (T a).2.1 ≠ (T b).2.1
theorem xapart {own C : String} {c N : Nat} {T : u_T} {s : State} {args : Array Value} (hK : XKn z s) (hw : ∀ w ∈ lw_all, w.before args s = true) (h1 : (c, C, T, N) ∈ xCls) (h7 : ∀ w ∈ u_ws C T N, w ∈ lw_all) (ty : Nat → FieldType) (hty : ∀ k, k < N → parseFieldDescriptor (T k).2.2.1 = some (ty k)) (hnm : ∀ a, a < N → ∀ b, b < N → a ≠ b → (T a).2.1 ≠ (T b).2.1) :
    ∀ x y, x < N → y < N → x ≠ y → xdI z c x ≠ xdI z c y := by
  have hK2 : va_K ((fun _ => xdC z c, fun _ => xdI z c) : va_G) [(C, T, N)] [] s := by
    refine ⟨fun c9 q hq => ?_, fun k q hq => by simp at hq⟩
    have hz : c9 = 0 := by
      have := (List.getElem?_eq_some_iff.mp hq).1
      simp at this
      exact this
    subst hz
    cases hq
    exact hK.1 _ h1
  exact va_apart (own := own) (D := (fun _ => xdC z c, fun _ => xdI z c)) (ci := 0) hw h7 ty hty hnm hK2 rfl
/-- a field is written: what our heap says then -/
theorem XRp.fld {t t1 : XSt} {H H1 : Heap} {a c f k : Nat} {b : Bool} {cell : Cell} {v : Value} (hR : XRp z t H) (hc : xcl t a = c) (h0 : c ≠ 0) (h1000 : c < 1000) (hk : (xFl c)[k]? = some (f, b)) (hap : ∀ x y, x < (xFl c).length → y < (xFl c).length → x ≠ y → xdI z c x ≠ xdI z c y)
    (hcell : H[a]? = some cell) (e1 : H1[a]? = some (cell.setSlot (xdI z c k) v)) (e2 : H1.size = H.size) (e3 : ∀ q, q ≠ a → H1[q]? = H[q]?)
    (hcl : xcl t1 = xcl t) (hln : xln t1 = xln t) (hai : xai t1 = xai t) (haj : xaj t1 = xaj t) (har : xar t1 = xar t) (hnx : xnx t1 = xnx t)
    (hv : xfv t1 c k a = v) (ho : ∀ c9 k9 b9 f9 d9, (xFl c9)[k9]? = some (f9, d9) → ¬ (b9 = a ∧ f9 = f) → xfv t1 c9 k9 b9 = xfv t c9 k9 b9) : XRp z t1 H1 := by
  refine hR.upd e2 e3 hnx (fun b9 hb => ⟨by rw [hcl], by rw [hln], fun k9 => ?_, fun j => by simp only [xev, hai, haj, har], by rw [hai]⟩) ?_
  · cases hk9 : (xFl (xcl t b9))[k9]? with
    | none => simp only [xfv, hk9]
    | some q => exact ho _ _ _ q.1 q.2 hk9 (fun h => hb h.1)
  · intro _
    rw [hcl, hc]
    obtain ⟨cell9, q1, q2, q3, q4, q5, q6⟩ := hR.ob hc h0 h1000
    cases hcell.symm.trans q1
    refine ⟨by rw [hnx]; exact hR.lt (by rw [hc]; exact h0), fun _ => ⟨_, e1, q2, q3, q4, q5, fun j hj => ?_⟩, fun h => by omega⟩
    have hkl : k < (xFl c).length := (List.getElem?_eq_some_iff.mp hk).1
    rw [t_set q6 (fun x y hx hy hne => hap x y hx hy hne) hkl v j hj]
    unfold updV
    by_cases hjk : j = k
    · subst hjk
      rw [if_pos rfl]
      exact congrArg some hv.symm
    · rw [if_neg hjk]
      congr 1
      have hj9 : ∃ q, (xFl c)[j]? = some q := ⟨_, List.getElem?_eq_getElem hj⟩
      obtain ⟨q, hq⟩ := hj9
      refine (ho c j a q.1 q.2 hq fun h => hjk ?_).symm
      obtain ⟨f9, d9⟩ := q
      have hff : f9 = f := h.2
      subst hff
      exact xFl_inj hq hk
theorem xfv_fi {t : XSt} {c k a b f f9 : Nat} {d : Bool} {x : Int32} (h : (xFl c)[k]? = some (f9, d)) (hn : ¬ (b = a ∧ f9 = f)) : xfv (xsfi t f a x) c k b = xfv t c k b := by
  unfold xfv
  rw [h]
  cases d with
  | true =>
    show Value.int (xfi (xsfi t f a x) f9 b) = _
    rw [xfi_xsfi, if_neg (fun q => hn ⟨q.2, q.1⟩)]
  | false => rfl
theorem xfv_fr {t : XSt} {c k a b f f9 : Nat} {d : Bool} {x : Option Nat} (h : (xFl c)[k]? = some (f9, d)) (hn : ¬ (b = a ∧ f9 = f)) : xfv (xsfr t f a x) c k b = xfv t c k b := by
  unfold xfv
  rw [h]
  cases d with
  | false =>
    show va_rf (xfr (xsfr t f a x) f9 b) = _
    rw [xfr_xsfr, if_neg (fun q => hn ⟨q.2, q.1⟩)]
  | true => rfl
/-- a heap operation that leaves the counts -/
theorem XOkS.w (h : ∀ {al : XL} {st : XS} {t : XSt} {q : Nat × XL × XS × XSt}, f al st t = some q → q.2.1 = al ∧ xnx q.2.2.2 = xnx t ∧ xus q.2.2.2 = xus t ∧ ∀ {p : Program} {l : Launch} {e : Env} {R : Room} {s : State} {m : MethodId} {args : Array Value} {below : List Frame} {meth : Method} {c : Code} {H : Heap} {locs : List Loc} {cells slots : Nat} {Q : State → Prop} {ls : Array Slot},
    XEn z own cc nL ini p l s m args meth c → XRp z t H → XSm z s.heap H → XLv nL ls al → 8 ≤ R.frames → 4000 ≤ R.locals →
    (∀ (H1 : Heap) (L : List Loc), XRp z q.2.2.2 H1 → XSm z s.heap H1 → (∀ x ∈ L, z.1 ≤ x.base) → W p l e R s m args below meth c H1 (locs ++ L) cells slots Q (F0 m q.1 ls (vcs q.2.2.1))) → W p l e R s m args below meth c H locs cells slots Q (F0 m pc ls (vcs st))) : XOkS z own cc nL ini pc f := by
  refine ⟨fun hf => ?_, fun {p l e R s m args below meth c H locs cells slots Q ls al st t q} hE hf hR hS hL h1 h2 h3 h4 k => ?_⟩
  · obtain ⟨-, e1, e2, -⟩ := h hf
    exact ⟨Nat.le_of_eq e1.symm, Nat.le_of_eq e2.symm⟩
  · obtain ⟨e0, e1, e2, k1⟩ := h hf
    refine k1 hE hR hS hL h3 h4 fun H1 L hR1 hS1 hL1 => ?_
    have k2 := k H1 ls L hR1 hS1 (by rw [e0]; exact hL) hL1
    rw [e1, e2, Nat.sub_self, Nat.sub_self, Nat.add_zero, Nat.add_zero] at k2
    exact k2
theorem XSm.wr {H0 H H1 : Heap} {a : Nat} (h : XSm z H0 H) (ha : z.1 ≤ a) (e2 : H1.size = H.size) (e3 : ∀ q, q ≠ a → H1[q]? = H[q]?) : XSm z H0 H1 :=
  h.tr ⟨Nat.le_of_eq e2.symm, fun x hx => e3 x (by omega)⟩
def XFp (own : String) (ini : String × String) (C : String) (T : u_T) (N k : Nat) (ty : Nat → FieldType) : Prop :=
  (∀ k, k < N → parseFieldDescriptor (T k).2.2.1 = some (ty k)) ∧ (∀ a, a < N → ∀ b, b < N → a ≠ b → (T a).2.1 ≠ (T b).2.1) ∧ ((T k).2.2.2 = false ∨ ((T k).2.2.2 = true ∧ ini.1 = "<init>" ∧ (T k).1 = own))
/-- the one store of a field -/
theorem xput {p : Program} {l : Launch} {e : Env} {R : Room} {s : State} {m : MethodId} {args : Array Value} {below : List Frame} {meth : Method} {c : Code} {H : Heap} {locs : List Loc} {cells slots : Nat} {Q : State → Prop} {ls : Array Slot} {t t1 : XSt} {a : Nat} {v : Value} {r : List Value} {i f : Nat} {b : Bool} {ref name desc : String} {cN : Nat} {C : String} {T : u_T} {N k9 : Nat} {ty : Nat → FieldType}
    (hE : XEn z own cc nL ini p l s m args meth c) (hR : XRp z t H) (hS : XSm z s.heap H) (d : decode cc pc = .ok (.putfield i, 3))
    (hlink : (Cond.fieldLink own i ref name desc).before args s = true) (hF : XFd ref name desc f b cN C T N k9) (hP : XFp own ini C T N k9 ty) (ha : z.1 ≤ a) (hc : xcl t a = cN) (hn : narrow (ty k9) v = v) (hfit : fits (ty k9) v = true)
    (hcl : xcl t1 = xcl t) (hln : xln t1 = xln t) (hai : xai t1 = xai t) (haj : xaj t1 = xaj t) (har : xar t1 = xar t) (hnx : xnx t1 = xnx t)
    (hv : xfv t1 cN k9 a = v) (ho : ∀ c9 k9 b9 f9 d9, (xFl c9)[k9]? = some (f9, d9) → ¬ (b9 = a ∧ f9 = f) → xfv t1 c9 k9 b9 = xfv t c9 k9 b9)
    (k : ∀ (H1 : Heap) (L : List Loc), XRp z t1 H1 → XSm z s.heap H1 → (∀ x ∈ L, z.1 ≤ x.base) → W p l e R s m args below meth c H1 (locs ++ L) cells slots Q (F0 m (pc + 3) ls r)) : W p l e R s m args below meth c H locs cells slots Q (F0 m pc ls (v :: .ref a :: r)) := by
  obtain ⟨cf, fi, kf, fd, hi, hst, hsl, hi0⟩ := hF.found hE.2.2.2.2.2.1 hE.2.2.2.2.1
  obtain ⟨h1, h2, h3, h4, h5, h6, h7, h8, h9, h10⟩ := hF
  obtain ⟨p1, p2, p3⟩ := hP
  obtain ⟨cell, q1, q2, q3, q4, q5, q6⟩ := hR.ob hc h9 h10
  obtain ⟨hSl, hfc, kC, hkC, hkind⟩ := hE.2.2.2.2.2.1.1 _ h1
  have hap := xapart (own := own) hE.2.2.2.2.2.1 hE.2.2.2.2.1 h1 h7 ty p1 p2
  rw [h3] at hap
  have hlt : fd.slot < cell.slots.size := by rw [hsl]; exact k2_hasslot (q6 k9 (by rw [← h3]; exact h2))
  have hlay := hE.2.2.2.2.1 _ (h7 _ (u_in_lay h2))
  unfold u_lay at hlay
  have fin : ∀ H1 : Heap, H1[a]? = some (cell.setSlot fd.slot v) → H1.size = H.size → (∀ q, q ≠ a → H1[q]? = H[q]?) → W p l e R s m args below meth c H1 (locs ++ [⟨a, fd.slot⟩]) cells slots Q (F0 m (pc + 3) ls r) := by
    intro H1 e1 e2 e3
    rw [hsl] at e1
    exact k H1 _ (hR.fld hc h9 h10 h6 hap q1 e1 e2 e3 hcl hln hai haj har hnx hv ho) (hS.wr ha e2 e3) (fun x hx => by rw [List.mem_singleton.mp hx]; exact ha)
  rcases p3 with hfin | ⟨hfin, hin, hdecl⟩
  · rw [if_neg (by rw [hfin]; decide)] at hlay
    have h66 := u_store hfc hkC hkind hlay hi0 (p1 k9 h2) hn hfit
    exact W.putK hE.1 hE.2.1 (f := fd) ⟨hE.2.2.2.1, hlink, ⟨_, _, _, hi⟩, hst⟩ (by rw [q2]; exact h66) q1 (q5 ha) hlt rfl rfl d fin
  · rw [if_pos hfin] at hlay
    have hcf : m.cls = cf := by
      obtain ⟨_, _, c', _, _, _, -, -, hf', -, -, -, hown2, -⟩ := Cond.laysFinal_spec hlay
      have e1 : c' = cf := by have := hi0.symm.trans hf'; simp at this; exact this.1.symm
      rw [hdecl] at hown2
      rw [← e1]; exact Option.some.inj (hE.2.2.2.1.symm.trans hown2)
    have h66 := u_fits hfc hkC hkind (Or.inr hlay) hi0 (p1 k9 h2) hn hfit
    exact W.putFinK hE.1 hE.2.1 hE.2.2.2.1 hlink hi hst hcf (hE.2.2.2.2.2.2.2.2.1.trans hin) (by rw [q2]; exact h66) q1 (q5 ha) hlt rfl rfl d fin
theorem ok_puti {i f : Nat} {ref name desc : String} {cs : List Nat} {ty : FieldType} (d : decode cc pc = .ok (.putfield i, 3)) (hl : Cond.fieldLink own i ref name desc ∈ lw_all) (hty : xtyok ty = true) (h : ∀ c ∈ cs, ∃ C T N k tys, XFd ref name desc f true c C T N k ∧ XFp own ini C T N k tys ∧ tys k = ty) : XOkS z own cc nL ini pc (i_puti z.1 cs ty f (pc + 3)) :=
  XOkS.w fun {al st t q} hf => by
    unfold i_puti at hf
    split at hf
    · split at hf
      · rename_i x a r hc
        cases hf
        refine ⟨rfl, rfl, rfl, fun hE hR hS hL _ _ k => ?_⟩
        obtain ⟨C, T, N, k9, tys, hF, hP, ht⟩ := h _ hc.2.1
        obtain ⟨f1, f2⟩ := xtyok_fit hty hc.2.2
        rw [← ht] at f1 f2
        exact xput (t1 := xsfi t f a x) hE hR hS d (hE.2.2.2.2.1 _ hl) hF hP hc.1 rfl f1 f2 rfl rfl rfl rfl rfl rfl (by rw [hF.slot, if_pos rfl, xfi_xsfi, if_pos ⟨rfl, rfl⟩]; rfl) (fun c9 k9 b9 f9 d9 hk9 hn => xfv_fi hk9 hn) k
      · cases hf
    · cases hf
theorem va_rf_fit {ty : FieldType} {o : Option Nat} (h : (∃ n, ty = .object n) ∨ ∃ t, ty = .array t) : narrow ty (va_rf o) = va_rf o ∧ fits ty (va_rf o) = true := by
  rcases h with ⟨n, rfl⟩ | ⟨t, rfl⟩ <;> cases o <;> exact ⟨rfl, rfl⟩
theorem ok_putr {i f : Nat} {ref name desc : String} {cs : List Nat} (d : decode cc pc = .ok (.putfield i, 3)) (hl : Cond.fieldLink own i ref name desc ∈ lw_all) (h : ∀ c ∈ cs, ∃ C T N k tys, XFd ref name desc f false c C T N k ∧ XFp own ini C T N k tys ∧ ((∃ n, tys k = .object n) ∨ ∃ t, tys k = .array t)) : XOkS z own cc nL ini pc (i_putr z.1 cs f (pc + 3)) :=
  XOkS.w fun {al st t q} hf => by
    unfold i_putr at hf
    split at hf
    · split at hf
      · rename_i x a r hc
        cases hf
        refine ⟨rfl, rfl, rfl, fun hE hR hS hL _ _ k => ?_⟩
        obtain ⟨C, T, N, k9, tys, hF, hP, ht⟩ := h _ hc.2
        obtain ⟨f1, f2⟩ := va_rf_fit (o := x) ht
        exact xput (t1 := xsfr t f a x) hE hR hS d (hE.2.2.2.2.1 _ hl) hF hP hc.1 rfl f1 f2 rfl rfl rfl rfl rfl rfl (by rw [hF.slot, if_neg (by decide), xfr_xsfr, if_pos ⟨rfl, rfl⟩]; rfl) (fun c9 k9 b9 f9 d9 hk9 hn => xfv_fr hk9 hn) k
      · cases hf
    · cases hf
end OKC
