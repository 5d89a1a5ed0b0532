/-! WHAT OUR HEAP SAYS OF THE MODEL'S -/
set_option maxRecDepth 100000
abbrev xdC (z : XKT) : Nat → ClassId := z.2.2.2.1.1
abbrev xdI (z : XKT) : Nat → Nat → Nat := z.2.2.2.1.2
abbrev xaC (z : XKT) : Nat → ClassId := z.2.2.2.2
abbrev xA (z : XKT) : Nat → Prop := fun x => z.1 ≤ x
def vcv : XV → Value
  | Sum.inl x => .int x
  | Sum.inr (Sum.inl o) => va_rf o
  | Sum.inr (Sum.inr (Sum.inl x)) => .long x
  | Sum.inr (Sum.inr (Sum.inr (Sum.inl x))) => .float x
  | Sum.inr (Sum.inr (Sum.inr (Sum.inr x))) => .double x
theorem vcv_cat (v : XV) : (vcv v).category = if xone (some v) = true then 1 else 2 := by
  rcases v with x | o | x | x | x
  · rfl
  · cases o <;> rfl
  · rfl
  · rfl
  · rfl
def vcs (s : XS) : List Value := s.map vcv
theorem vcs_sum (s : XS) : ((vcs s).map fun v => v.category).sum = xwd s := by
  induction s with
  | nil => rfl
  | cons v r ih =>
    show (vcv v).category + ((vcs r).map fun v => v.category).sum = _
    rw [ih, vcv_cat]
    rfl
def XLv (n : Nat) (ls : Array Slot) (l : XL) : Prop := ls.size = n ∧ lv_wf ls ∧ l.length = n ∧ ∀ (i : Nat) (v : XV), l[i]? = some (some v) → ls[i]? = some (.val (vcv v))
theorem XLv.at {n : Nat} {ls : Array Slot} {l : XL} (h : XLv n ls l) {i : Nat} {v : XV} (e : l[i]? = some (some v)) : ls[i]? = some (.val (vcv v)) := h.2.2.2 i v e
def xfv (t : XSt) (c k a : Nat) : Value := match (xFl c)[k]? with
  | some (f, true) => .int (xfi t f a)
  | some (f, false) => va_rf (xfr t f a)
  | none => .null
def xev (t : XSt) (c a j : Nat) : Value := if c = 1002 then .long (xaj t a j) else if c < 1003 then .int (xai t a j) else va_rf (xar t a j)
def xOb (z : XKT) (H : Heap) (a c : Nat) (V : Nat → Value) : Prop := ∃ cell : Cell, H[a]? = some cell ∧ cell.cls = xdC z c ∧ cell.vm ≠ .unknown ∧ cell.vm.isStatics = false ∧ (z.1 ≤ a → cell.vm = .none) ∧ ∀ k, k < (xFl c).length → cell.slots[xdI z c k]? = some (V k)
def xAr (z : XKT) (H : Heap) (a c n : Nat) (V : Nat → Value) : Prop := ∃ cell : Cell, H[a]? = some cell ∧ cell.cls = xaC z c ∧ cell.vm ≠ .unknown ∧ cell.vm.isStatics = false ∧ (z.1 ≤ a → cell = arrV (xaC z c) n V) ∧ cell.slots.size = n ∧ ∀ j, j < n → cell.slots[j]? = some (V j)
def xCe (z : XKT) (t : XSt) (H : Heap) (a : Nat) : Prop := xcl t a ≠ 0 → a < xnx t ∧ (xcl t a < 1000 → xOb z H a (xcl t a) (fun k => xfv t (xcl t a) k a)) ∧ (1000 ≤ xcl t a → xAr z H a (xcl t a) (xln t a) (fun j => xev t (xcl t a) a j) ∧ (xcl t a = 1001 → ∀ j, j < xln t a → fits .byte (.int (xai t a j)) = true))
def XRp (z : XKT) (t : XSt) (H : Heap) : Prop := H.size = xnx t ∧ z.1 ≤ xnx t ∧ ∀ a, xCe z t H a
def XSm (z : XKT) (H0 H : Heap) : Prop := H0.size ≤ H.size ∧ ∀ x : Nat, x < z.1 → H[x]? = H0[x]?
theorem XSm.rf {z : XKT} {H : Heap} : XSm z H H := ⟨Nat.le_refl _, fun _ _ => rfl⟩
theorem XSm.tr {z : XKT} {H0 H1 H2 : Heap} (h : XSm z H0 H1) (k : XSm z H1 H2) : XSm z H0 H2 := ⟨Nat.le_trans h.1 k.1, fun x hx => (k.2 x hx).trans (h.2 x hx)⟩
theorem xOb.kept {z : XKT} {H H1 : Heap} {a c : Nat} {V V1 : Nat → Value} (h : xOb z H a c V) (e : H1[a]? = H[a]?) (hv : ∀ k, k < (xFl c).length → V k = V1 k) : xOb z H1 a c V1 := by
  obtain ⟨cell, h1, h2, h3, h4, h5, h6⟩ := h
  exact ⟨cell, e.trans h1, h2, h3, h4, h5, fun k hk => by rw [h6 k hk, hv k hk]⟩
theorem arrV_congr {cA : ClassId} {n : Nat} {V V1 : Nat → Value} (h : ∀ j, j < n → V j = V1 j) : arrV cA n V = arrV cA n V1 := by
  unfold arrV
  have e : (fun j : Fin n => V j.val) = fun j => V1 j.val := funext fun j => h j.val j.isLt
  rw [e]
theorem xAr.kept {z : XKT} {H H1 : Heap} {a c n : Nat} {V V1 : Nat → Value} (h : xAr z H a c n V) (e : H1[a]? = H[a]?) (hv : ∀ k, k < n → V k = V1 k) : xAr z H1 a c n V1 := by
  obtain ⟨cell, h1, h2, h3, h4, h5, h6, h7⟩ := h
  exact ⟨cell, e.trans h1, h2, h3, h4, fun q => by rw [h5 q]; exact arrV_congr hv, h6, fun k hk => by rw [h7 k hk, hv k hk]⟩
/-- the view of a cell is the same in both -/
def xSv (t t1 : XSt) (b : Nat) : Prop := xcl t1 b = xcl t b ∧ xln t1 b = xln t b ∧ (∀ k, xfv t1 (xcl t b) k b = xfv t (xcl t b) k b) ∧ (∀ j, xev t1 (xcl t b) b j = xev t (xcl t b) b j) ∧ xai t1 b = xai t b
theorem xCe.kept {z : XKT} {t t1 : XSt} {H H1 : Heap} {b : Nat} (h : xCe z t H b) (e : H1[b]? = H[b]?) (hn : xnx t ≤ xnx t1) (hv : xSv t t1 b) : xCe z t1 H1 b := by
  obtain ⟨v1, v2, v3, v4, v5⟩ := hv
  intro h0
  rw [v1] at h0
  obtain ⟨k1, k2, k3⟩ := h h0
  refine ⟨Nat.lt_of_lt_of_le k1 hn, fun hc => ?_, fun hc => ?_⟩
  · rw [v1] at hc ⊢
    exact (k2 hc).kept e (fun k _ => (v3 k).symm)
  · rw [v1] at hc ⊢
    rw [v2, v5]
    exact ⟨(k3 hc).1.kept e (fun k _ => (v4 k).symm), (k3 hc).2⟩
theorem xSv.rf (t : XSt) (b : Nat) : xSv t t b := ⟨rfl, rfl, fun _ => rfl, fun _ => rfl, rfl⟩
theorem XRp.upd {z : XKT} {t t1 : XSt} {H H1 : Heap} {a : Nat} (h : XRp z t H) (hz : H1.size = H.size) (ho : ∀ q, q ≠ a → H1[q]? = H[q]?) (hn : xnx t1 = xnx t) (hv : ∀ b, b ≠ a → xSv t t1 b) (ha : xCe z t1 H1 a) : XRp z t1 H1 := by
  obtain ⟨h1, h2, h3⟩ := h
  refine ⟨by rw [hz, hn]; exact h1, by rw [hn]; exact h2, fun b => ?_⟩
  by_cases hb : b = a
  · subst hb; exact ha
  · exact (h3 b).kept (ho b hb) (Nat.le_of_eq hn.symm) (hv b hb)
/-- one cell more -/
theorem XRp.push {z : XKT} {t t1 : XSt} {H H1 : Heap} (h : XRp z t H) (hz : H1.size = H.size + 1) (ho : ∀ q, q < H.size → H1[q]? = H[q]?) (hn : xnx t1 = xnx t + 1) (hv : ∀ b, b ≠ xnx t → xSv t t1 b) (ha : xCe z t1 H1 (xnx t)) : XRp z t1 H1 := by
  obtain ⟨h1, h2, h3⟩ := h
  refine ⟨by rw [hz, hn, h1], by rw [hn]; omega, fun b => ?_⟩
  by_cases hb : b = xnx t
  · subst hb; exact ha
  · by_cases hc : xcl t b = 0
    · intro h0
      rw [(hv b hb).1] at h0
      exact absurd hc h0
    · exact (h3 b).kept (ho b (by rw [h1]; exact (h3 b hc).1)) (by omega) (hv b hb)
theorem XRp.ob {z : XKT} {t : XSt} {H : Heap} (h : XRp z t H) {a c : Nat} (hc : xcl t a = c) (h0 : c ≠ 0) (h1 : c < 1000) : xOb z H a c (fun k => xfv t c k a) := by
  subst hc
  exact (h.2.2 a h0).2.1 h1
theorem XRp.ar {z : XKT} {t : XSt} {H : Heap} (h : XRp z t H) {a c : Nat} (hc : xcl t a = c) (h1 : 1000 ≤ c) : xAr z H a c (xln t a) (fun j => xev t c a j) := by
  subst hc
  exact ((h.2.2 a (by omega)).2.2 h1).1
theorem XRp.lt {z : XKT} {t : XSt} {H : Heap} (h : XRp z t H) {a : Nat} (h0 : xcl t a ≠ 0) : a < xnx t := (h.2.2 a h0).1
theorem XRp.size {z : XKT} {t : XSt} {H : Heap} (h : XRp z t H) : H.size = xnx t := h.1
/-! what holds of a state all through -/
def xGw (w : Cond) : Bool := match w with
  | .fieldLinkNest _ _ _ _ _ _ => true
  | .methodLinkNest _ _ _ _ => true
  | .castable _ _ => true
  | .declares _ => true
  | .privateMethod _ => true
  | _ => false
theorem xGw_tab {w : Cond} (h : xGw w = true) : w.onTables = true := by
  cases w <;> first | rfl | (simp [xGw] at h)
theorem xGw_warm {w : Cond} (h : xGw w = true) {s U : State} (hW : s.WarmedH U.vm) (k : va_Nw w s) : va_Nw w U := by
  cases w with
  | fieldLinkNest a i b n d e => exact va_Nw.warmF hW k
  | methodLinkNest a i x e => exact va_Nw.warmM hW k
  | castable C T => exact va_Nw.warmC hW k
  | declares x => exact va_Nw.warmD hW k
  | privateMethod x => exact Cond.tabsOnly_warm (args := #[]) (args' := #[]) (s := s) (T := U) hW (.privateMethod x) rfl k
  | _ => simp [xGw] at h
/-- enum constants' numbers -/
def xKds : List (Nat × String) := [(22, "WreckShares$Kind$1"), (23, "WreckShares$Kind$2"), (24, "WreckShares$Kind$3"), (25, "WreckShares$Kind$4")]
def xFs (s : State) (C f d : String) (i : Nat) : Prop := ∃ cf kf fi fd, s.fieldFound? C f d = some (cf, kf, fi, fd) ∧ fd.isStatic = false ∧ fd.slot = i
theorem xFs.moved {u E : State} {C f d : String} {i : Nat} (hvm : u.vm.Alike E.vm) (h : xFs u C f d i) : xFs E C f d i := by
  obtain ⟨cf, kf, fi, fd, hi, hst, hs⟩ := h
  obtain ⟨kf', hi', -⟩ := State.fieldFound?_setVm (s := u) hvm hi
  exact ⟨cf, kf', fi, fd, by simpa only [State.fieldFound?, State.vm_setVm] using hi', hst, hs⟩
/-- a place where a lambda is made, as linked -/
def XLm (s : State) (x : MethodName) (pc index : Nat) (sh : Lambda.Shape) (c : ClassId) (one : Option Nat) : Prop := ∃ (m : MethodId) (k : Class) (cf : ClassFile) (i0 p0 : Nat) (l : Linked), s.methodNamed? x = some m ∧ s.vm.classes[m.cls]? = some k ∧ k.cf = some cf ∧ Lambda.shapeOf? cf index = some sh ∧
  (k.callSites.find? fun y => y.1 == m.idx && y.2.1 == pc) = some (i0, p0, l) ∧ Lambda.isMade { classPath := fun _ => none } s.vm m.cls sh c = true ∧ s.lambdaCallable sh c = true ∧ l = (match one with | some a => .constant a | none => .makes c)
theorem XLm.warm {s U : State} {x : MethodName} {pc index : Nat} {sh : Lambda.Shape} {c : ClassId} {one : Option Nat} (hW : s.WarmedH U.vm) (h : XLm s x pc index sh c one) : XLm U x pc index sh c one := by
  obtain ⟨m, k, cf, i0, p0, l, hm, hk, hcf, hsh, hfind, hmade, hcall, hl⟩ := h
  have hcall' : U.lambdaCallable sh c = true := by
    have hA := hW.alike
    simp only [State.lambdaCallable, hA.findClass, hA.assignable, hA.superclasses, hA.declaredIn] at hcall ⊢
    exact hcall
  obtain ⟨k', hk', he⟩ := hW.alike.2.2 _ _ hk
  have hm' : U.methodNamed? x = some m := by
    have := State.methodNamed?_setVm (s := s) hW.alike x
    rw [hm] at this
    exact this
  exact ⟨m, k', cf, i0, p0, l, hm', hk', by rw [he]; exact hcf, hsh, by rw [he]; exact hfind, Lambda.isMade_warmer hW hmade, hcall', hl⟩
def xShp (w : Cond) : Lambda.Shape := match w with
  | .lambdaSite _ _ _ sh => sh
  | _ => { iface := "", name := "", sam := ⟨[], none⟩, captured := [], kind := 6, implClass := "", implName := "", implDesc := ⟨[], none⟩, implItf := false, inst := ⟨[], none⟩ }
def xLms : List (MethodName × Nat × Nat × Lambda.Shape × Nat × Option Nat) := [(⟨"WreckShares", "lettingAll", "()LWreckShares$Deed;"⟩, 0, 29, xShp siteWord_1_4, 42, some 33),
  (⟨"WreckShares", "dividingAll", "()LWreckShares$Deed;"⟩, 0, 38, xShp siteWord_1_5, 47, some 32),
  (⟨"WreckShares", "shareOf", "(LWreckShares$Good;I)I"⟩, 2, 315, xShp siteWord_1_6, 49, none),
  (⟨"WreckShares", "crownShare", "(I)I"⟩, 5, 323, xShp siteWord_1_7, 50, some 35),
  (⟨"WreckShares", "ownerShare", "(I)I"⟩, 5, 326, xShp siteWord_1_8, 51, some 34),
  (⟨"WreckShares", "roping", "(II)LWreckShares$Deed;"⟩, 2, 22, xShp siteWord_1_9, 40, none),
  (⟨"WreckShares", "letting", "(I)LWreckShares$Deed;"⟩, 1, 26, xShp siteWord_1_10, 41, none),
  (⟨"WreckShares", "paying", "(III)LWreckShares$Deed;"⟩, 3, 32, xShp siteWord_1_11, 43, none),
  (⟨"WreckShares", "hauling", "(I)LWreckShares$Deed;"⟩, 1, 35, xShp siteWord_1_12, 44, none),
  (⟨"WreckShares", "claiming", "(I)LWreckShares$Deed;"⟩, 1, 36, xShp siteWord_1_13, 45, none),
  (⟨"WreckShares", "dividing", "(I)LWreckShares$Deed;"⟩, 1, 37, xShp siteWord_1_14, 46, none),
  (⟨"WreckShares", "passing", "(I)LWreckShares$Deed;"⟩, 1, 39, xShp siteWord_1_15, 48, none)]
/-- arrays of which the class of the components isn't asked -/
def xAr2 : List (Nat × FieldType) := [(1007, .object "java/lang/Integer")]
def XKx (z : XKT) (s : State) : Prop := (∀ q ∈ xAr2, ArrOfT s (xaC z q.1) q.2) ∧ (∀ q ∈ xStr, vk_R q.1 q.2.1 q.2.2.1 (z.2.1 q.2.2.2) s) ∧ (∀ q ∈ xKds, s.vm.findClass q.2 = some (xdC z q.1) ∧ xFs s "java/lang/Enum" "ordinal" "I" (xdI z q.1 0)) ∧ (∀ q ∈ xLms, XLm s q.1 q.2.1 q.2.2.1 q.2.2.2.1 (xdC z q.2.2.2.2.1) (q.2.2.2.2.2.map z.2.1) ∧ ∀ k, xdI z q.2.2.2.2.1 k = k)
theorem XKx_warm {z : XKT} {s U : State} (hW : s.WarmedH U.vm) (h : XKx z s) : XKx z U := by
  obtain ⟨h0, h1, h2, h3⟩ := h
  exact ⟨fun q hq => arrOfT_moved hW.alike (h0 q hq), fun q hq => (h1 q hq).warm hW, fun q hq => ⟨by rw [hW.alike.findClass]; exact (h2 q hq).1, (h2 q hq).2.moved hW.alike⟩, fun q hq => ⟨(h3 q hq).1.warm hW, (h3 q hq).2⟩⟩
def XKn (z : XKT) (s : State) : Prop :=
  (∀ q ∈ xCls, u_Kn s q.2.1 q.2.2.1 q.2.2.2 (xdC z q.1) (xdI z q.1)) ∧ (∀ q ∈ xArs, ArrOfT s (xaC z q.1) q.2 ∧ va_RA s (xaC z q.1) q.2) ∧ (∀ w ∈ lw_tbl, xGw w = true → va_Nw w s) ∧ (∀ C, Cond.arrayOver (.object C) ∈ lw_tbl → va_AO C s) ∧ (∀ q ∈ xNcs, va_Nc q.1 q.2 s) ∧ (∀ q ∈ xFws, va_Fw q.1 q.2.1 q.2.2 s) ∧ XKx z s
theorem XKn.warm {z : XKT} {s U : State} (hW : s.WarmedH U.vm) (h : XKn z s) : XKn z U := by
  obtain ⟨h1, h2, h3, h4, h5, h6, h7⟩ := h
  have hA := hW.alike
  exact ⟨fun q hq => u_Kn_moved hA (h1 q hq), fun q hq => ⟨arrOfT_moved hA (h2 q hq).1, (h2 q hq).2.moved hA⟩, fun w hw hg => xGw_warm hg hW (h3 w hw hg), fun C hC => (h4 C hC).moved hA, fun q hq => (h5 q hq).moved hA, fun q hq => (h6 q hq).moved (xFws_ok q hq) hA, XKx_warm hW h7⟩
