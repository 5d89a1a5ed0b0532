/-! AN ABSTRACT MACHINE OF OUR OWN: values, cells by fields, instructions as functions, runs by fuel; later it is tied to the model's machine -/
set_option maxRecDepth 100000
abbrev XV : Type := Int32 ⊕ (Option Nat ⊕ (Int64 ⊕ (UInt32 ⊕ UInt64)))
abbrev vI (x : Int32) : XV := Sum.inl x
abbrev vR (o : Option Nat) : XV := Sum.inr (Sum.inl o)
abbrev vJ (x : Int64) : XV := Sum.inr (Sum.inr (Sum.inl x))
abbrev vF (x : UInt32) : XV := Sum.inr (Sum.inr (Sum.inr (Sum.inl x)))
abbrev vD (x : UInt64) : XV := Sum.inr (Sum.inr (Sum.inr (Sum.inr x)))
/-- the first address that may be written; known constants; statics that may hold nothing; what the model calls our codes -/
abbrev XKT : Type := Nat × (Nat → Nat) × (Nat → Option Nat) × va_G × (Nat → ClassId)
/-- code of a cell, length, int fields, reference fields, int-like arrays, long arrays, reference arrays, next address, slots used -/
def XSt : Type := (Nat → Nat) × (Nat → Nat) × (Nat → Nat → Int32) × (Nat → Nat → Option Nat) × (Nat → Nat → Int32) × (Nat → Nat → Int64) × (Nat → Nat → Option Nat) × Nat × Nat
def xmk (c l : Nat → Nat) (i : Nat → Nat → Int32) (r : Nat → Nat → Option Nat) (ai : Nat → Nat → Int32) (aj : Nat → Nat → Int64) (ar : Nat → Nat → Option Nat) (n u : Nat) : XSt := (c, l, i, r, ai, aj, ar, n, u)
def xcl (t : XSt) : Nat → Nat := t.1
def xln (t : XSt) : Nat → Nat := t.2.1
def xfi (t : XSt) : Nat → Nat → Int32 := t.2.2.1
def xfr (t : XSt) : Nat → Nat → Option Nat := t.2.2.2.1
def xai (t : XSt) : Nat → Nat → Int32 := t.2.2.2.2.1
def xaj (t : XSt) : Nat → Nat → Int64 := t.2.2.2.2.2.1
def xar (t : XSt) : Nat → Nat → Option Nat := t.2.2.2.2.2.2.1
def xnx (t : XSt) : Nat := t.2.2.2.2.2.2.2.1
def xus (t : XSt) : Nat := t.2.2.2.2.2.2.2.2
def xup1 {α : Type} (g : Nat → α) (a : Nat) (v : α) : Nat → α := fun b => if b = a then v else g b
def xup2 {α : Type} (g : Nat → Nat → α) (f a : Nat) (v : α) : Nat → Nat → α := fun f' a' => if f' = f ∧ a' = a then v else g f' a'
def xrow {α : Type} (g : Nat → Nat → α) (a : Nat) (r : Nat → α) : Nat → Nat → α := fun b j => if b = a then r j else g b j
def xcol {α : Type} (g : Nat → Nat → α) (a : Nat) (v : α) : Nat → Nat → α := fun f b => if b = a then v else g f b
def xsfi (t : XSt) (f a : Nat) (v : Int32) : XSt := xmk (xcl t) (xln t) (xup2 (xfi t) f a v) (xfr t) (xai t) (xaj t) (xar t) (xnx t) (xus t)
def xsfr (t : XSt) (f a : Nat) (v : Option Nat) : XSt := xmk (xcl t) (xln t) (xfi t) (xup2 (xfr t) f a v) (xai t) (xaj t) (xar t) (xnx t) (xus t)
def xsai (t : XSt) (a j : Nat) (v : Int32) : XSt := xmk (xcl t) (xln t) (xfi t) (xfr t) (xup2 (xai t) a j v) (xaj t) (xar t) (xnx t) (xus t)
def xsaj (t : XSt) (a j : Nat) (v : Int64) : XSt := xmk (xcl t) (xln t) (xfi t) (xfr t) (xai t) (xup2 (xaj t) a j v) (xar t) (xnx t) (xus t)
def xsar (t : XSt) (a j : Nat) (v : Option Nat) : XSt := xmk (xcl t) (xln t) (xfi t) (xfr t) (xai t) (xaj t) (xup2 (xar t) a j v) (xnx t) (xus t)
/-- a new cell with fields -/
def xnew (t : XSt) (c n : Nat) : XSt := xmk (xup1 (xcl t) (xnx t) c) (xln t) (xcol (xfi t) (xnx t) 0) (xcol (xfr t) (xnx t) none) (xai t) (xaj t) (xar t) (xnx t + 1) (xus t + n)
def xnai (t : XSt) (c n : Nat) : XSt := xmk (xup1 (xcl t) (xnx t) c) (xup1 (xln t) (xnx t) n) (xfi t) (xfr t) (xrow (xai t) (xnx t) (fun _ => 0)) (xaj t) (xar t) (xnx t + 1) (xus t + n)
def xnaj (t : XSt) (c n : Nat) : XSt := xmk (xup1 (xcl t) (xnx t) c) (xup1 (xln t) (xnx t) n) (xfi t) (xfr t) (xai t) (xrow (xaj t) (xnx t) (fun _ => 0)) (xar t) (xnx t + 1) (xus t + n)
def xnar (t : XSt) (c n : Nat) : XSt := xmk (xup1 (xcl t) (xnx t) c) (xup1 (xln t) (xnx t) n) (xfi t) (xfr t) (xai t) (xaj t) (xrow (xar t) (xnx t) (fun _ => none)) (xnx t + 1) (xus t + n)
/-- a row of an int-like array laid whole -/
def xsra (t : XSt) (a : Nat) (r : Nat → Int32) : XSt := xmk (xcl t) (xln t) (xfi t) (xfr t) (xrow (xai t) a r) (xaj t) (xar t) (xnx t) (xus t)
def xsrr (t : XSt) (a : Nat) (r : Nat → Option Nat) : XSt := xmk (xcl t) (xln t) (xfi t) (xfr t) (xai t) (xaj t) (xrow (xar t) a r) (xnx t) (xus t)
theorem xcl_xsfi (t : XSt) (f a : Nat) (v : Int32) : xcl (xsfi t f a v) = xcl t := rfl
theorem xln_xsfi (t : XSt) (f a : Nat) (v : Int32) : xln (xsfi t f a v) = xln t := rfl
theorem xfi_xsfi (t : XSt) (f a : Nat) (v : Int32) (f9 a9 : Nat) : xfi (xsfi t f a v) f9 a9 = if f9 = f ∧ a9 = a then v else xfi t f9 a9 := rfl
theorem xfr_xsfi (t : XSt) (f a : Nat) (v : Int32) : xfr (xsfi t f a v) = xfr t := rfl
theorem xai_xsfi (t : XSt) (f a : Nat) (v : Int32) : xai (xsfi t f a v) = xai t := rfl
theorem xaj_xsfi (t : XSt) (f a : Nat) (v : Int32) : xaj (xsfi t f a v) = xaj t := rfl
theorem xar_xsfi (t : XSt) (f a : Nat) (v : Int32) : xar (xsfi t f a v) = xar t := rfl
theorem xnx_xsfi (t : XSt) (f a : Nat) (v : Int32) : xnx (xsfi t f a v) = xnx t := rfl
theorem xus_xsfi (t : XSt) (f a : Nat) (v : Int32) : xus (xsfi t f a v) = xus t := rfl
theorem xcl_xsfr (t : XSt) (f a : Nat) (v : Option Nat) : xcl (xsfr t f a v) = xcl t := rfl
theorem xln_xsfr (t : XSt) (f a : Nat) (v : Option Nat) : xln (xsfr t f a v) = xln t := rfl
theorem xfi_xsfr (t : XSt) (f a : Nat) (v : Option Nat) : xfi (xsfr t f a v) = xfi t := rfl
theorem xfr_xsfr (t : XSt) (f a : Nat) (v : Option Nat) (f9 a9 : Nat) : xfr (xsfr t f a v) f9 a9 = if f9 = f ∧ a9 = a then v else xfr t f9 a9 := rfl
theorem xai_xsfr (t : XSt) (f a : Nat) (v : Option Nat) : xai (xsfr t f a v) = xai t := rfl
theorem xaj_xsfr (t : XSt) (f a : Nat) (v : Option Nat) : xaj (xsfr t f a v) = xaj t := rfl
theorem xar_xsfr (t : XSt) (f a : Nat) (v : Option Nat) : xar (xsfr t f a v) = xar t := rfl
theorem xnx_xsfr (t : XSt) (f a : Nat) (v : Option Nat) : xnx (xsfr t f a v) = xnx t := rfl
theorem xus_xsfr (t : XSt) (f a : Nat) (v : Option Nat) : xus (xsfr t f a v) = xus t := rfl
theorem xcl_xsai (t : XSt) (f a : Nat) (v : Int32) : xcl (xsai t f a v) = xcl t := rfl
theorem xln_xsai (t : XSt) (f a : Nat) (v : Int32) : xln (xsai t f a v) = xln t := rfl
theorem xfi_xsai (t : XSt) (f a : Nat) (v : Int32) : xfi (xsai t f a v) = xfi t := rfl
theorem xfr_xsai (t : XSt) (f a : Nat) (v : Int32) : xfr (xsai t f a v) = xfr t := rfl
theorem xai_xsai (t : XSt) (f a : Nat) (v : Int32) (f9 a9 : Nat) : xai (xsai t f a v) f9 a9 = if f9 = f ∧ a9 = a then v else xai t f9 a9 := rfl
theorem xaj_xsai (t : XSt) (f a : Nat) (v : Int32) : xaj (xsai t f a v) = xaj t := rfl
theorem xar_xsai (t : XSt) (f a : Nat) (v : Int32) : xar (xsai t f a v) = xar t := rfl
theorem xnx_xsai (t : XSt) (f a : Nat) (v : Int32) : xnx (xsai t f a v) = xnx t := rfl
theorem xus_xsai (t : XSt) (f a : Nat) (v : Int32) : xus (xsai t f a v) = xus t := rfl
theorem xcl_xsaj (t : XSt) (f a : Nat) (v : Int64) : xcl (xsaj t f a v) = xcl t := rfl
theorem xln_xsaj (t : XSt) (f a : Nat) (v : Int64) : xln (xsaj t f a v) = xln t := rfl
theorem xfi_xsaj (t : XSt) (f a : Nat) (v : Int64) : xfi (xsaj t f a v) = xfi t := rfl
theorem xfr_xsaj (t : XSt) (f a : Nat) (v : Int64) : xfr (xsaj t f a v) = xfr t := rfl
theorem xai_xsaj (t : XSt) (f a : Nat) (v : Int64) : xai (xsaj t f a v) = xai t := rfl
theorem xaj_xsaj (t : XSt) (f a : Nat) (v : Int64) (f9 a9 : Nat) : xaj (xsaj t f a v) f9 a9 = if f9 = f ∧ a9 = a then v else xaj t f9 a9 := rfl
theorem xar_xsaj (t : XSt) (f a : Nat) (v : Int64) : xar (xsaj t f a v) = xar t := rfl
theorem xnx_xsaj (t : XSt) (f a : Nat) (v : Int64) : xnx (xsaj t f a v) = xnx t := rfl
theorem xus_xsaj (t : XSt) (f a : Nat) (v : Int64) : xus (xsaj t f a v) = xus t := rfl
theorem xcl_xsar (t : XSt) (f a : Nat) (v : Option Nat) : xcl (xsar t f a v) = xcl t := rfl
theorem xln_xsar (t : XSt) (f a : Nat) (v : Option Nat) : xln (xsar t f a v) = xln t := rfl
theorem xfi_xsar (t : XSt) (f a : Nat) (v : Option Nat) : xfi (xsar t f a v) = xfi t := rfl
theorem xfr_xsar (t : XSt) (f a : Nat) (v : Option Nat) : xfr (xsar t f a v) = xfr t := rfl
theorem xai_xsar (t : XSt) (f a : Nat) (v : Option Nat) : xai (xsar t f a v) = xai t := rfl
theorem xaj_xsar (t : XSt) (f a : Nat) (v : Option Nat) : xaj (xsar t f a v) = xaj t := rfl
theorem xar_xsar (t : XSt) (f a : Nat) (v : Option Nat) (f9 a9 : Nat) : xar (xsar t f a v) f9 a9 = if f9 = f ∧ a9 = a then v else xar t f9 a9 := rfl
theorem xnx_xsar (t : XSt) (f a : Nat) (v : Option Nat) : xnx (xsar t f a v) = xnx t := rfl
theorem xus_xsar (t : XSt) (f a : Nat) (v : Option Nat) : xus (xsar t f a v) = xus t := rfl
theorem xcl_xnew (t : XSt) (c n : Nat) (a9 : Nat) : xcl (xnew t c n) a9 = if a9 = xnx t then c else xcl t a9 := rfl
theorem xln_xnew (t : XSt) (c n : Nat) : xln (xnew t c n) = xln t := rfl
theorem xfi_xnew (t : XSt) (c n : Nat) (f9 a9 : Nat) : xfi (xnew t c n) f9 a9 = if a9 = xnx t then 0 else xfi t f9 a9 := rfl
theorem xfr_xnew (t : XSt) (c n : Nat) (f9 a9 : Nat) : xfr (xnew t c n) f9 a9 = if a9 = xnx t then none else xfr t f9 a9 := rfl
theorem xai_xnew (t : XSt) (c n : Nat) : xai (xnew t c n) = xai t := rfl
theorem xaj_xnew (t : XSt) (c n : Nat) : xaj (xnew t c n) = xaj t := rfl
theorem xar_xnew (t : XSt) (c n : Nat) : xar (xnew t c n) = xar t := rfl
theorem xnx_xnew (t : XSt) (c n : Nat) : xnx (xnew t c n) = xnx t + 1 := rfl
theorem xus_xnew (t : XSt) (c n : Nat) : xus (xnew t c n) = xus t + n := rfl
theorem xcl_xnai (t : XSt) (c n : Nat) (a9 : Nat) : xcl (xnai t c n) a9 = if a9 = xnx t then c else xcl t a9 := rfl
theorem xln_xnai (t : XSt) (c n : Nat) (a9 : Nat) : xln (xnai t c n) a9 = if a9 = xnx t then n else xln t a9 := rfl
theorem xfi_xnai (t : XSt) (c n : Nat) : xfi (xnai t c n) = xfi t := rfl
theorem xfr_xnai (t : XSt) (c n : Nat) : xfr (xnai t c n) = xfr t := rfl
theorem xai_xnai (t : XSt) (c n : Nat) (f9 a9 : Nat) : xai (xnai t c n) f9 a9 = if f9 = xnx t then 0 else xai t f9 a9 := rfl
theorem xaj_xnai (t : XSt) (c n : Nat) : xaj (xnai t c n) = xaj t := rfl
theorem xar_xnai (t : XSt) (c n : Nat) : xar (xnai t c n) = xar t := rfl
theorem xnx_xnai (t : XSt) (c n : Nat) : xnx (xnai t c n) = xnx t + 1 := rfl
theorem xus_xnai (t : XSt) (c n : Nat) : xus (xnai t c n) = xus t + n := rfl
theorem xcl_xnaj (t : XSt) (c n : Nat) (a9 : Nat) : xcl (xnaj t c n) a9 = if a9 = xnx t then c else xcl t a9 := rfl
theorem xln_xnaj (t : XSt) (c n : Nat) (a9 : Nat) : xln (xnaj t c n) a9 = if a9 = xnx t then n else xln t a9 := rfl
theorem xfi_xnaj (t : XSt) (c n : Nat) : xfi (xnaj t c n) = xfi t := rfl
theorem xfr_xnaj (t : XSt) (c n : Nat) : xfr (xnaj t c n) = xfr t := rfl
theorem xai_xnaj (t : XSt) (c n : Nat) : xai (xnaj t c n) = xai t := rfl
theorem xaj_xnaj (t : XSt) (c n : Nat) (f9 a9 : Nat) : xaj (xnaj t c n) f9 a9 = if f9 = xnx t then 0 else xaj t f9 a9 := rfl
theorem xar_xnaj (t : XSt) (c n : Nat) : xar (xnaj t c n) = xar t := rfl
theorem xnx_xnaj (t : XSt) (c n : Nat) : xnx (xnaj t c n) = xnx t + 1 := rfl
theorem xus_xnaj (t : XSt) (c n : Nat) : xus (xnaj t c n) = xus t + n := rfl
theorem xcl_xnar (t : XSt) (c n : Nat) (a9 : Nat) : xcl (xnar t c n) a9 = if a9 = xnx t then c else xcl t a9 := rfl
theorem xln_xnar (t : XSt) (c n : Nat) (a9 : Nat) : xln (xnar t c n) a9 = if a9 = xnx t then n else xln t a9 := rfl
theorem xfi_xnar (t : XSt) (c n : Nat) : xfi (xnar t c n) = xfi t := rfl
theorem xfr_xnar (t : XSt) (c n : Nat) : xfr (xnar t c n) = xfr t := rfl
theorem xai_xnar (t : XSt) (c n : Nat) : xai (xnar t c n) = xai t := rfl
theorem xaj_xnar (t : XSt) (c n : Nat) : xaj (xnar t c n) = xaj t := rfl
theorem xar_xnar (t : XSt) (c n : Nat) (f9 a9 : Nat) : xar (xnar t c n) f9 a9 = if f9 = xnx t then none else xar t f9 a9 := rfl
theorem xnx_xnar (t : XSt) (c n : Nat) : xnx (xnar t c n) = xnx t + 1 := rfl
theorem xus_xnar (t : XSt) (c n : Nat) : xus (xnar t c n) = xus t + n := rfl
theorem xcl_xsra (t : XSt) (a : Nat) (r : Nat → Int32) : xcl (xsra t a r) = xcl t := rfl
theorem xln_xsra (t : XSt) (a : Nat) (r : Nat → Int32) : xln (xsra t a r) = xln t := rfl
theorem xfi_xsra (t : XSt) (a : Nat) (r : Nat → Int32) : xfi (xsra t a r) = xfi t := rfl
theorem xfr_xsra (t : XSt) (a : Nat) (r : Nat → Int32) : xfr (xsra t a r) = xfr t := rfl
theorem xai_xsra (t : XSt) (a : Nat) (r : Nat → Int32) (f9 a9 : Nat) : xai (xsra t a r) f9 a9 = if f9 = a then r a9 else xai t f9 a9 := rfl
theorem xaj_xsra (t : XSt) (a : Nat) (r : Nat → Int32) : xaj (xsra t a r) = xaj t := rfl
theorem xar_xsra (t : XSt) (a : Nat) (r : Nat → Int32) : xar (xsra t a r) = xar t := rfl
theorem xnx_xsra (t : XSt) (a : Nat) (r : Nat → Int32) : xnx (xsra t a r) = xnx t := rfl
theorem xus_xsra (t : XSt) (a : Nat) (r : Nat → Int32) : xus (xsra t a r) = xus t := rfl
theorem xcl_xsrr (t : XSt) (a : Nat) (r : Nat → Option Nat) : xcl (xsrr t a r) = xcl t := rfl
theorem xln_xsrr (t : XSt) (a : Nat) (r : Nat → Option Nat) : xln (xsrr t a r) = xln t := rfl
theorem xfi_xsrr (t : XSt) (a : Nat) (r : Nat → Option Nat) : xfi (xsrr t a r) = xfi t := rfl
theorem xfr_xsrr (t : XSt) (a : Nat) (r : Nat → Option Nat) : xfr (xsrr t a r) = xfr t := rfl
theorem xai_xsrr (t : XSt) (a : Nat) (r : Nat → Option Nat) : xai (xsrr t a r) = xai t := rfl
theorem xaj_xsrr (t : XSt) (a : Nat) (r : Nat → Option Nat) : xaj (xsrr t a r) = xaj t := rfl
theorem xar_xsrr (t : XSt) (a : Nat) (r : Nat → Option Nat) (f9 a9 : Nat) : xar (xsrr t a r) f9 a9 = if f9 = a then r a9 else xar t f9 a9 := rfl
theorem xnx_xsrr (t : XSt) (a : Nat) (r : Nat → Option Nat) : xnx (xsrr t a r) = xnx t := rfl
theorem xus_xsrr (t : XSt) (a : Nat) (r : Nat → Option Nat) : xus (xsrr t a r) = xus t := rfl
abbrev XL : Type := List (Option XV)
abbrev XS : Type := List XV
abbrev XRs : Type := List XV ⊕ Nat
abbrev XSem : Type := XL → XS → XSt → Option (Nat × XL × XS × XSt)
abbrev XCal : Type := XS → XSt → Option (Nat × List XV × XS)
abbrev XRet : Type := XS → Option (List XV)
abbrev XThr : Type := XS → XSt → Option (Nat × XSt)
abbrev XI : Type := XSem ⊕ ((Nat × XCal) ⊕ (XRet ⊕ XThr))
/-- a program: instructions; number of variables; handlers by method, pc, code of the thrown; ranks -/
abbrev XP : Type := (Nat → Nat → Option XI) × (Nat → Nat) × (Nat → Nat → Nat → Option Nat) × (Nat → Nat)
/-- no value of two words stands just ahead of the place -/
def xone (v : Option XV) : Bool := match v with
  | some (Sum.inr (Sum.inr (Sum.inl _))) => false
  | some (Sum.inr (Sum.inr (Sum.inr (Sum.inr _)))) => false
  | _ => true
/-- the words of a stack -/
def xwd : XS → Nat
  | [] => 0
  | v :: r => (if xone (some v) = true then 1 else 2) + xwd r
theorem vp_nar_i (x : Int32) : vp_nar .int x = x := rfl
def xlay : List XV → XL
  | [] => []
  | Sum.inr (Sum.inr (Sum.inl x)) :: r => some (vJ x) :: none :: xlay r
  | Sum.inr (Sum.inr (Sum.inr (Sum.inr x))) :: r => some (vD x) :: none :: xlay r
  | v :: r => some v :: xlay r
def xpad (n : Nat) (l : XL) : XL := l ++ List.replicate (n - l.length) none
def xent (K : XP) (m : Nat) (as : List XV) : XL := xpad (K.2.1 m) (xlay as)
/-- what is gone on with behind a call -/
def xback (K : XP) (R : Nat → Nat → XL → XS → XSt → Option (XRs × XSt)) (m pc nx : Nat) (l : XL) (rest : XS) (q : XRs × XSt) : Option (XRs × XSt) :=
  match q.1 with
  | .inl vs => R m nx l (vs ++ rest) q.2
  | .inr a => match K.2.2.1 m pc (xcl q.2 a) with
    | none => some (.inr a, q.2)
    | some h => R m h l [vR (some a)] q.2
def xstep (K : XP) (R : Nat → Nat → XL → XS → XSt → Option (XRs × XSt)) (m pc : Nat) (l : XL) (s : XS) (t : XSt) (i : XI) : Option (XRs × XSt) :=
  match i with
  | .inl f => (f l s t).bind fun q => R m q.1 q.2.1 q.2.2.1 q.2.2.2
  | .inr (.inl c) => (c.2 s t).bind fun q => if xwd q.2.2 ≤ 8 ∧ K.2.2.2 q.1 < K.2.2.2 m ∧ (xlay q.2.1).length ≤ K.2.1 q.1 then (R q.1 0 (xent K q.1 q.2.1) [] t).bind (xback K R m pc c.1 l q.2.2) else none
  | .inr (.inr (.inl g)) => (g s).bind fun vs => some (.inl vs, t)
  | .inr (.inr (.inr g)) => (g s t).bind fun q => if K.2.2.1 m pc (xcl q.2 q.1) = none then some (.inr q.1, q.2) else none
def xexec (K : XP) : Nat → Nat → Nat → XL → XS → XSt → Option (XRs × XSt)
  | 0, _, _, _, _, _ => none
  | n + 1, m, pc, l, s, t => (K.1 m pc).bind (xstep K (xexec K n) m pc l s t)
def XLe (R R' : Nat → Nat → XL → XS → XSt → Option (XRs × XSt)) : Prop := ∀ m pc l s t q, R m pc l s t = some q → R' m pc l s t = some q
theorem xback_le {K : XP} {R R' : Nat → Nat → XL → XS → XSt → Option (XRs × XSt)} (h : XLe R R') {m pc nx : Nat} {l : XL} {rest : XS} {q q' : XRs × XSt} (e : xback K R m pc nx l rest q = some q') : xback K R' m pc nx l rest q = some q' := by
  obtain ⟨r, t⟩ := q
  cases r with
  | inl vs => exact h _ _ _ _ _ _ e
  | inr a =>
    simp only [xback] at e ⊢
    cases hh : K.2.2.1 m pc (xcl t a) with
    | none => rw [hh] at e; exact e
    | some h9 => rw [hh] at e; exact h _ _ _ _ _ _ e
theorem xstep_le {K : XP} {R R' : Nat → Nat → XL → XS → XSt → Option (XRs × XSt)} (h : XLe R R') {m pc : Nat} {l : XL} {s : XS} {t : XSt} {i : XI} {q : XRs × XSt} (e : xstep K R m pc l s t i = some q) : xstep K R' m pc l s t i = some q := by
  rcases i with f | c | g | g
  · obtain ⟨z, h1, h2⟩ := Option.bind_eq_some_iff.mp e
    exact Option.bind_eq_some_iff.mpr ⟨z, h1, h _ _ _ _ _ _ h2⟩
  · obtain ⟨z, h1, h2⟩ := Option.bind_eq_some_iff.mp e
    refine Option.bind_eq_some_iff.mpr ⟨z, h1, ?_⟩
    split at h2
    · rename_i hc
      rw [if_pos hc]
      obtain ⟨y, h3, h4⟩ := Option.bind_eq_some_iff.mp h2
      exact Option.bind_eq_some_iff.mpr ⟨y, h _ _ _ _ _ _ h3, xback_le h h4⟩
    · cases h2
  · exact e
  · exact e
theorem xexec_succ (K : XP) : ∀ n, XLe (xexec K n) (xexec K (n + 1))
  | 0, _, _, _, _, _, _, e => by cases e
  | n + 1, m, pc, l, s, t, q, e => by
    obtain ⟨i, h1, h2⟩ := Option.bind_eq_some_iff.mp e
    exact Option.bind_eq_some_iff.mpr ⟨i, h1, xstep_le (xexec_succ K n) h2⟩
theorem xexec_mono (K : XP) (n k : Nat) : XLe (xexec K n) (xexec K (n + k)) := by
  induction k with
  | zero => exact fun _ _ _ _ _ _ e => e
  | succ k ih => exact fun m pc l s t q e => xexec_succ K (n + k) _ _ _ _ _ _ (ih _ _ _ _ _ _ e)
theorem xexec_le (K : XP) {n k : Nat} (h : n ≤ k) : XLe (xexec K n) (xexec K k) := by
  obtain ⟨j, rfl⟩ := Nat.le.dest h
  exact xexec_mono K n j
/-- from here it ends, with Q -/
def xwp (K : XP) (m pc : Nat) (l : XL) (s : XS) (t : XSt) (Q : XRs → XSt → Prop) : Prop := ∃ n q, xexec K n m pc l s t = some q ∧ Q q.1 q.2
/-- a call from its entry -/
def xca (K : XP) (m : Nat) (as : List XV) (t : XSt) (Q : XRs → XSt → Prop) : Prop := xwp K m 0 (xent K m as) [] t Q
theorem xwp_cases {K : XP} {m pc : Nat} {l : XL} {s : XS} {t : XSt} {Q : XRs → XSt → Prop} {i : XI} (hi : K.1 m pc = some i) : xwp K m pc l s t Q = ∃ n q, xstep K (xexec K n) m pc l s t i = some q ∧ Q q.1 q.2 := by
  apply propext
  constructor
  · rintro ⟨n, q, e, hq⟩
    cases n with
    | zero => cases e
    | succ n =>
      have e' : (K.1 m pc).bind (xstep K (xexec K n) m pc l s t) = some q := e
      rw [hi] at e'
      exact ⟨n, q, e', hq⟩
  · rintro ⟨n, q, e, hq⟩
    refine ⟨n + 1, q, ?_, hq⟩
    show (K.1 m pc).bind (xstep K (xexec K n) m pc l s t) = some q
    rw [hi]
    exact e
theorem xwp_s {K : XP} {m pc : Nat} {l : XL} {s : XS} {t : XSt} {Q : XRs → XSt → Prop} {f : XSem} {pc' : Nat} {l' : XL} {s' : XS} {t' : XSt} (hi : K.1 m pc = some (.inl f)) (hf : f l s t = some (pc', l', s', t')) : xwp K m pc l s t Q = xwp K m pc' l' s' t' Q := by
  rw [xwp_cases hi]
  apply propext
  constructor
  · rintro ⟨n, q, e, hq⟩
    have e' : (f l s t).bind (fun q => xexec K n m q.1 q.2.1 q.2.2.1 q.2.2.2) = some q := e
    rw [hf] at e'
    exact ⟨n, q, e', hq⟩
  · rintro ⟨n, q, e, hq⟩
    refine ⟨n, q, ?_, hq⟩
    show (f l s t).bind (fun q => xexec K n m q.1 q.2.1 q.2.2.1 q.2.2.2) = some q
    rw [hf]
    exact e
/-- an instruction that asks c -/
theorem xwp_sc {K : XP} {m pc : Nat} {l : XL} {s : XS} {t : XSt} {Q : XRs → XSt → Prop} {f : XSem} {pc' : Nat} {l' : XL} {s' : XS} {t' : XSt} {c : Prop} [Decidable c] (hi : K.1 m pc = some (.inl f)) (hf : f l s t = if c then some (pc', l', s', t') else none) : xwp K m pc l s t Q = (c ∧ xwp K m pc' l' s' t' Q) := by
  by_cases h : c
  · rw [if_pos h] at hf
    rw [xwp_s hi hf]
    simp [h]
  · rw [if_neg h] at hf
    rw [xwp_cases hi]
    apply propext
    constructor
    · rintro ⟨n, q, e, hq⟩
      have e' : (f l s t).bind (fun q => xexec K n m q.1 q.2.1 q.2.2.1 q.2.2.2) = some q := e
      rw [hf] at e'
      cases e'
    · exact fun z => absurd z.1 h
theorem xwp_if {K : XP} {m pc : Nat} {l : XL} {s : XS} {t : XSt} {Q : XRs → XSt → Prop} {f : XSem} {a b : Nat} {l' : XL} {s' : XS} {t' : XSt} {c : Prop} [Decidable c] (hi : K.1 m pc = some (.inl f)) (hf : f l s t = some ((if c then a else b), l', s', t')) : xwp K m pc l s t Q = if c then xwp K m a l' s' t' Q else xwp K m b l' s' t' Q := by
  rw [xwp_s hi hf]
  split <;> rfl
/-- what stands behind a call -/
def xk (K : XP) (m pc nx : Nat) (l : XL) (rest : XS) (Q : XRs → XSt → Prop) : XRs → XSt → Prop
  | .inl vs, t => xwp K m nx l (vs ++ rest) t Q
  | .inr a, t => match K.2.2.1 m pc (xcl t a) with
    | none => Q (.inr a) t
    | some h => xwp K m h l [vR (some a)] t Q
theorem xwp_back {K : XP} {m pc nx : Nat} {l : XL} {rest : XS} {Q : XRs → XSt → Prop} (q : XRs × XSt) : xk K m pc nx l rest Q q.1 q.2 ↔ ∃ n q', xback K (xexec K n) m pc nx l rest q = some q' ∧ Q q'.1 q'.2 := by
  obtain ⟨r, t⟩ := q
  cases r with
  | inl vs => exact Iff.rfl
  | inr a =>
    simp only [xk, xback]
    cases hh : K.2.2.1 m pc (xcl t a) with
    | none =>
      simp only [Option.some.injEq]
      exact ⟨fun h => ⟨0, _, rfl, h⟩, fun ⟨_, _, e, h⟩ => by cases e; exact h⟩
    | some h9 => exact Iff.rfl
theorem xwp_c {K : XP} {m pc : Nat} {l : XL} {s : XS} {t : XSt} {Q : XRs → XSt → Prop} {nx : Nat} {g : XCal} {m' : Nat} {as : List XV} {rest : XS} (hi : K.1 m pc = some (.inr (.inl (nx, g)))) (hg : g s t = some (m', as, rest)) (h4 : xwd rest ≤ 8 ∧ K.2.2.2 m' < K.2.2.2 m ∧ (xlay as).length ≤ K.2.1 m') : xwp K m pc l s t Q = xca K m' as t (xk K m pc nx l rest Q) := by
  rw [xwp_cases hi]
  have key : ∀ n, xstep K (xexec K n) m pc l s t (.inr (.inl (nx, g))) = (xexec K n m' 0 (xent K m' as) [] t).bind (xback K (xexec K n) m pc nx l rest) := by
    intro n
    show (g s t).bind _ = _
    rw [hg]
    exact if_pos h4
  apply propext
  constructor
  · rintro ⟨n, q, e, hq⟩
    rw [key] at e
    obtain ⟨z, h1, h2⟩ := Option.bind_eq_some_iff.mp e
    exact ⟨n, z, h1, (xwp_back z).mpr ⟨n, q, h2, hq⟩⟩
  · rintro ⟨n, z, h1, h2⟩
    obtain ⟨k, q, h3, hq⟩ := (xwp_back z).mp h2
    refine ⟨n + k, q, ?_, hq⟩
    rw [key]
    exact Option.bind_eq_some_iff.mpr ⟨z, xexec_le K (by omega) _ _ _ _ _ _ h1, xback_le (xexec_le K (by omega)) h3⟩
/-- a call whose target stands under a condition -/
theorem xwp_cc {K : XP} {m pc : Nat} {l : XL} {s : XS} {t : XSt} {Q : XRs → XSt → Prop} {nx : Nat} {g : XCal} {m' : Nat} {as : List XV} {rest : XS} {c : Prop} [Decidable c] (hi : K.1 m pc = some (.inr (.inl (nx, g)))) (hg : g s t = if c then some (m', as, rest) else none) (h4 : xwd rest ≤ 8 ∧ K.2.2.2 m' < K.2.2.2 m ∧ (xlay as).length ≤ K.2.1 m') : xwp K m pc l s t Q = (c ∧ xca K m' as t (xk K m pc nx l rest Q)) := by
  by_cases h : c
  · rw [if_pos h] at hg
    rw [xwp_c hi hg h4]
    simp [h]
  · rw [if_neg h] at hg
    rw [xwp_cases hi]
    apply propext
    constructor
    · rintro ⟨n, q, e, hq⟩
      have e' : (g s t).bind (fun q => if xwd q.2.2 ≤ 8 ∧ K.2.2.2 q.1 < K.2.2.2 m ∧ (xlay q.2.1).length ≤ K.2.1 q.1 then (xexec K n q.1 0 (xent K q.1 q.2.1) [] t).bind (xback K (xexec K n) m pc nx l q.2.2) else none) = some q := e
      rw [hg] at e'
      cases e'
    · exact fun z => absurd z.1 h
theorem xwp_r {K : XP} {m pc : Nat} {l : XL} {s : XS} {t : XSt} {Q : XRs → XSt → Prop} {g : XRet} {vs : List XV} (hi : K.1 m pc = some (.inr (.inr (.inl g)))) (hg : g s = some vs) : xwp K m pc l s t Q = Q (.inl vs) t := by
  rw [xwp_cases hi]
  apply propext
  constructor
  · rintro ⟨n, q, e, hq⟩
    have e' : (g s).bind (fun vs => some ((.inl vs, t) : XRs × XSt)) = some q := e
    rw [hg] at e'
    cases e'
    exact hq
  · intro h
    refine ⟨0, (.inl vs, t), ?_, h⟩
    show (g s).bind (fun vs => some ((.inl vs, t) : XRs × XSt)) = _
    rw [hg]
    rfl
theorem xwp_rc {K : XP} {m pc : Nat} {l : XL} {s : XS} {t : XSt} {Q : XRs → XSt → Prop} {g : XRet} {vs : List XV} {c : Prop} [Decidable c] (hi : K.1 m pc = some (.inr (.inr (.inl g)))) (hg : g s = if c then some vs else none) : xwp K m pc l s t Q = (c ∧ Q (.inl vs) t) := by
  by_cases h : c
  · rw [if_pos h] at hg
    rw [xwp_r hi hg]
    simp [h]
  · rw [if_neg h] at hg
    rw [xwp_cases hi]
    apply propext
    constructor
    · rintro ⟨n, q, e, hq⟩
      have e' : (g s).bind (fun vs => some ((.inl vs, t) : XRs × XSt)) = some q := e
      rw [hg] at e'
      cases e'
    · exact fun z => absurd z.1 h
theorem xwp_t {K : XP} {m pc : Nat} {l : XL} {s : XS} {t : XSt} {Q : XRs → XSt → Prop} {g : XThr} {a : Nat} {t' : XSt} (hi : K.1 m pc = some (.inr (.inr (.inr g)))) (hg : g s t = some (a, t')) (hh : K.2.2.1 m pc (xcl t' a) = none) : xwp K m pc l s t Q = Q (.inr a) t' := by
  rw [xwp_cases hi]
  apply propext
  constructor
  · rintro ⟨n, q, e, hq⟩
    have e' : (g s t).bind (fun q => if K.2.2.1 m pc (xcl q.2 q.1) = none then some ((.inr q.1, q.2) : XRs × XSt) else none) = some q := e
    rw [hg] at e'
    simp only [Option.bind_some, hh, if_true, Option.some.injEq] at e'
    subst e'
    exact hq
  · intro h
    refine ⟨0, (.inr a, t'), ?_, h⟩
    show (g s t).bind (fun q => if K.2.2.1 m pc (xcl q.2 q.1) = none then some ((.inr q.1, q.2) : XRs × XSt) else none) = _
    rw [hg]
    simp [hh]
theorem xwp_tc {K : XP} {m pc : Nat} {l : XL} {s : XS} {t : XSt} {Q : XRs → XSt → Prop} {g : XThr} {a : Nat} {t' : XSt} {c : Prop} [Decidable c] (hi : K.1 m pc = some (.inr (.inr (.inr g)))) (hg : g s t = if c then some (a, t') else none) (hh : K.2.2.1 m pc (xcl t' a) = none) : xwp K m pc l s t Q = (c ∧ Q (.inr a) t') := by
  by_cases h : c
  · rw [if_pos h] at hg
    rw [xwp_t hi hg hh]
    simp [h]
  · rw [if_neg h] at hg
    rw [xwp_cases hi]
    apply propext
    constructor
    · rintro ⟨n, q, e, hq⟩
      have e' : (g s t).bind (fun q => if K.2.2.1 m pc (xcl q.2 q.1) = none then some ((.inr q.1, q.2) : XRs × XSt) else none) = some q := e
      rw [hg] at e'
      cases e'
    · exact fun z => absurd z.1 h
/-! the instructions -/
def i_push (v : XV) (nx : Nat) : XSem := fun l s t => some (nx, l, v :: s, t)
def i_iload (k nx : Nat) : XSem := fun l s t => match l[k]? with
  | some (some (Sum.inl x)) => some (nx, l, vI x :: s, t)
  | _ => none
def i_aload (k nx : Nat) : XSem := fun l s t => match l[k]? with
  | some (some (Sum.inr (Sum.inl o))) => some (nx, l, vR o :: s, t)
  | _ => none
def i_lload (k nx : Nat) : XSem := fun l s t => match l[k]? with
  | some (some (Sum.inr (Sum.inr (Sum.inl x)))) => some (nx, l, vJ x :: s, t)
  | _ => none
def i_dload (k nx : Nat) : XSem := fun l s t => match l[k]? with
  | some (some (Sum.inr (Sum.inr (Sum.inr (Sum.inr x))))) => some (nx, l, vD x :: s, t)
  | _ => none
/-- the place k of the list may be written -/
def xst : XL → Nat → Bool
  | [], _ => false
  | _ :: _, 0 => true
  | v :: _ :: _, 1 => xone v
  | _ :: l, k + 1 => xst l k
def i_istore (k nx : Nat) : XSem := fun l s t => match s with
  | Sum.inl x :: r => if xst l k = true then some (nx, l.set k (some (vI x)), r, t) else none
  | _ => none
def i_astore (k nx : Nat) : XSem := fun l s t => match s with
  | Sum.inr (Sum.inl o) :: r => if xst l k = true then some (nx, l.set k (some (vR o)), r, t) else none
  | _ => none
def i_lstore (k nx : Nat) : XSem := fun l s t => match s with
  | Sum.inr (Sum.inr (Sum.inl x)) :: r => if xst l k = true then (if k + 1 < l.length then some (nx, (l.set k (some (vJ x))).set (k + 1) none, r, t) else none) else none
  | _ => none
def i_dstore (k nx : Nat) : XSem := fun l s t => match s with
  | Sum.inr (Sum.inr (Sum.inr (Sum.inr x))) :: r => if xst l k = true then (if k + 1 < l.length then some (nx, (l.set k (some (vD x))).set (k + 1) none, r, t) else none) else none
  | _ => none
def i_iinc (k : Nat) (n : Int32) (nx : Nat) : XSem := fun l s t => match l[k]? with
  | some (some (Sum.inl x)) => if xst l k = true then some (nx, l.set k (some (vI (x + n))), s, t) else none
  | _ => none
def i_bin (f : Int32 → Int32 → Int32) (nx : Nat) : XSem := fun l s t => match s with
  | Sum.inl y :: Sum.inl x :: r => some (nx, l, vI (f x y) :: r, t)
  | _ => none
def i_quo (f : Int32 → Int32 → Int32) (nx : Nat) : XSem := fun l s t => match s with
  | Sum.inl y :: Sum.inl x :: r => if ¬ y = 0 then some (nx, l, vI (f x y) :: r, t) else none
  | _ => none
def i_un (f : Int32 → Int32) (nx : Nat) : XSem := fun l s t => match s with
  | Sum.inl x :: r => some (nx, l, vI (f x) :: r, t)
  | _ => none
def i_i2l (nx : Nat) : XSem := fun l s t => match s with
  | Sum.inl x :: r => some (nx, l, vJ x.toInt64 :: r, t)
  | _ => none
def i_l2i (nx : Nat) : XSem := fun l s t => match s with
  | Sum.inr (Sum.inr (Sum.inl x)) :: r => some (nx, l, vI x.toInt32 :: r, t)
  | _ => none
def i_lbin (f : Int64 → Int64 → Int64) (nx : Nat) : XSem := fun l s t => match s with
  | Sum.inr (Sum.inr (Sum.inl y)) :: Sum.inr (Sum.inr (Sum.inl x)) :: r => some (nx, l, vJ (f x y) :: r, t)
  | _ => none
def i_lsh (f : Int64 → Int32 → Int64) (nx : Nat) : XSem := fun l s t => match s with
  | Sum.inl y :: Sum.inr (Sum.inr (Sum.inl x)) :: r => some (nx, l, vJ (f x y) :: r, t)
  | _ => none
def i_lcmp (nx : Nat) : XSem := fun l s t => match s with
  | Sum.inr (Sum.inr (Sum.inl y)) :: Sum.inr (Sum.inr (Sum.inl x)) :: r => some (nx, l, vI (lg_cmp x y) :: r, t)
  | _ => none
def i_dup (nx : Nat) : XSem := fun l s t => match s with
  | v :: r => if xone (some v) = true then some (nx, l, v :: v :: r, t) else none
  | _ => none
def i_pop (nx : Nat) : XSem := fun l s t => match s with
  | v :: r => if xone (some v) = true then some (nx, l, r, t) else none
  | _ => none
def i_oinit (nx : Nat) : XSem := fun l s t => match s with
  | Sum.inr (Sum.inl (some _)) :: r => if xwd r ≤ 8 then some (nx, l, r, t) else none
  | _ => none
def i_dupx1 (nx : Nat) : XSem := fun l s t => match s with
  | v :: w :: r => if xone (some v) = true ∧ xone (some w) = true then some (nx, l, v :: w :: v :: r, t) else none
  | _ => none
def i_dup2 (nx : Nat) : XSem := fun l s t => match s with
  | v :: w :: r => if xone (some v) = true ∧ xone (some w) = true then some (nx, l, v :: w :: v :: w :: r, t) else none
  | _ => none
def i_goto (tg : Nat) : XSem := fun l s t => some (tg, l, s, t)
def i_if (c : Int32 → Prop) [d9 : ∀ x, Decidable (c x)] (tg nx : Nat) : XSem := fun l s t => match s with
  | Sum.inl x :: r => some ((if c x then tg else nx), l, r, t)
  | _ => none
def i_icmp (c : Int32 → Int32 → Prop) [d9 : ∀ x y, Decidable (c x y)] (tg nx : Nat) : XSem := fun l s t => match s with
  | Sum.inl y :: Sum.inl x :: r => some ((if c x y then tg else nx), l, r, t)
  | _ => none
def i_acmpeq (tg nx : Nat) : XSem := fun l s t => match s with
  | Sum.inr (Sum.inl y) :: Sum.inr (Sum.inl x) :: r => some ((if x = y then tg else nx), l, r, t)
  | _ => none
def i_acmpne (tg nx : Nat) : XSem := fun l s t => match s with
  | Sum.inr (Sum.inl y) :: Sum.inr (Sum.inl x) :: r => some ((if x = y then nx else tg), l, r, t)
  | _ => none
/-- nothing, or a cell of a code in vs -/
def xany (vs : List Nat) (t : XSt) (o : Option Nat) : Bool := match o with
  | none => true
  | some q => decide (xcl t q ∈ vs)
def i_ifnull (tg nx : Nat) : XSem := fun l s t => match s with
  | Sum.inr (Sum.inl x) :: r => some ((if x = none then tg else nx), l, r, t)
  | _ => none
def xswt : List (Int32 × Nat) → Nat → Int32 → Nat
  | [], d, _ => d
  | q :: r, d, x => if x = q.1 then q.2 else xswt r d x
def i_swt (ps : List (Int32 × Nat)) (d : Nat) : XSem := fun l s t => match s with
  | Sum.inl x :: r => some (xswt ps d x, l, r, t)
  | _ => none
/-- fields: cs the codes that the cell may have, f the field -/
def i_geti (cs : List Nat) (f nx : Nat) : XSem := fun l s t => match s with
  | Sum.inr (Sum.inl (some a)) :: r => if xcl t a ∈ cs then some (nx, l, vI (xfi t f a) :: r, t) else none
  | _ => none
def i_getr (cs : List Nat) (f nx : Nat) : XSem := fun l s t => match s with
  | Sum.inr (Sum.inl (some a)) :: r => if xcl t a ∈ cs then some (nx, l, vR (xfr t f a) :: r, t) else none
  | _ => none
/-- b: the first address that may be written; ty: the field's type, for a narrow one -/
def i_puti (b : Nat) (cs : List Nat) (ty : FieldType) (f nx : Nat) : XSem := fun l s t => match s with
  | Sum.inl x :: Sum.inr (Sum.inl (some a)) :: r => if b ≤ a ∧ xcl t a ∈ cs ∧ vp_nar ty x = x then some (nx, l, r, xsfi t f a x) else none
  | _ => none
def i_putr (b : Nat) (cs : List Nat) (f nx : Nat) : XSem := fun l s t => match s with
  | Sum.inr (Sum.inl o) :: Sum.inr (Sum.inl (some a)) :: r => if b ≤ a ∧ xcl t a ∈ cs then some (nx, l, r, xsfr t f a o) else none
  | _ => none
def i_new (c n nx : Nat) : XSem := fun l s t => some (nx, l, vR (some (xnx t)) :: s, xnew t c n)
/-- a new array of whole numbers (of the code c) -/
def i_nai (c nx : Nat) : XSem := fun l s t => match s with
  | Sum.inl x :: r => if ¬ x < 0 ∧ x.toNatClampNeg ≤ 65536 then some (nx, l, vR (some (xnx t)) :: r, xnai t c x.toNatClampNeg) else none
  | _ => none
def i_naj (c nx : Nat) : XSem := fun l s t => match s with
  | Sum.inl x :: r => if ¬ x < 0 ∧ x.toNatClampNeg ≤ 65536 then some (nx, l, vR (some (xnx t)) :: r, xnaj t c x.toNatClampNeg) else none
  | _ => none
def i_nar (c nx : Nat) : XSem := fun l s t => match s with
  | Sum.inl x :: r => if ¬ x < 0 ∧ x.toNatClampNeg ≤ 65536 then some (nx, l, vR (some (xnx t)) :: r, xnar t c x.toNatClampNeg) else none
  | _ => none
def i_alen (nx : Nat) : XSem := fun l s t => match s with
  | Sum.inr (Sum.inl (some a)) :: r => if 1000 ≤ xcl t a ∧ xcl t a < 1008 then some (nx, l, vI (nI (xln t a)) :: r, t) else none
  | _ => none
def i_ald (c nx : Nat) : XSem := fun l s t => match s with
  | Sum.inl i :: Sum.inr (Sum.inl (some a)) :: r => if xcl t a = c ∧ ¬ (i < 0 ∨ xln t a ≤ i.toNatClampNeg) then some (nx, l, vI (xai t a i.toNatClampNeg) :: r, t) else none
  | _ => none
def i_ajld (c nx : Nat) : XSem := fun l s t => match s with
  | Sum.inl i :: Sum.inr (Sum.inl (some a)) :: r => if xcl t a = c ∧ ¬ (i < 0 ∨ xln t a ≤ i.toNatClampNeg) then some (nx, l, vJ (xaj t a i.toNatClampNeg) :: r, t) else none
  | _ => none
def i_arld (cs : List Nat) (nx : Nat) : XSem := fun l s t => match s with
  | Sum.inl i :: Sum.inr (Sum.inl (some a)) :: r => if xcl t a ∈ cs ∧ ¬ (i < 0 ∨ xln t a ≤ i.toNatClampNeg) then some (nx, l, vR (xar t a i.toNatClampNeg) :: r, t) else none
  | _ => none
def i_ast (b c : Nat) (f : Int32 → Int32) (nx : Nat) : XSem := fun l s t => match s with
  | Sum.inl x :: Sum.inl i :: Sum.inr (Sum.inl (some a)) :: r => if b ≤ a ∧ xcl t a = c ∧ ¬ (i < 0 ∨ xln t a ≤ i.toNatClampNeg) then some (nx, l, r, xsai t a i.toNatClampNeg (f x)) else none
  | _ => none
def i_ajst (b c : Nat) (nx : Nat) : XSem := fun l s t => match s with
  | Sum.inr (Sum.inr (Sum.inl x)) :: Sum.inl i :: Sum.inr (Sum.inl (some a)) :: r => if b ≤ a ∧ xcl t a = c ∧ ¬ (i < 0 ∨ xln t a ≤ i.toNatClampNeg) then some (nx, l, r, xsaj t a i.toNatClampNeg x) else none
  | _ => none
/-- what may stand in an array of the code c: nothing, or a cell of a code in vs -/
def i_arst (b c : Nat) (vs : List Nat) (nx : Nat) : XSem := fun l s t => match s with
  | Sum.inr (Sum.inl o) :: Sum.inl i :: Sum.inr (Sum.inl (some a)) :: r => if (b ≤ a ∧ xcl t a = c ∧ ¬ (i < 0 ∨ xln t a ≤ i.toNatClampNeg)) ∧ xany vs t o = true then some (nx, l, r, xsar t a i.toNatClampNeg o) else none
  | _ => none
def i_cast (cs : List Nat) (nx : Nat) : XSem := fun l s t => match s with
  | Sum.inr (Sum.inl o) :: r => if xany cs t o = true then some (nx, l, vR o :: r, t) else none
  | _ => none
/-- ys: codes that are of the kind asked for; ns: codes that are not -/
def i_inst (ys ns : List Nat) (nx : Nat) : XSem := fun l s t => match s with
  | Sum.inr (Sum.inl none) :: r => some (nx, l, vI 0 :: r, t)
  | Sum.inr (Sum.inl (some a)) :: r => if xcl t a ∈ ys ++ ns then some (nx, l, vI (if xcl t a ∈ ys then 1 else 0) :: r, t) else none
  | _ => none
/-- returns -/
def r_v : XRet := fun s => match s with
  | [] => some []
  | _ => none
def r_i (ty : FieldType) : XRet := fun s => match s with
  | [Sum.inl x] => if vp_nar ty x = x then some [vI x] else none
  | _ => none
def r_a : XRet := fun s => match s with
  | [Sum.inr (Sum.inl o)] => some [vR o]
  | _ => none
def r_f : XRet := fun s => match s with
  | [Sum.inr (Sum.inr (Sum.inr (Sum.inl x)))] => some [vF x]
  | _ => none
def r_d : XRet := fun s => match s with
  | [Sum.inr (Sum.inr (Sum.inr (Sum.inr x)))] => some [vD x]
  | _ => none
/-- throws: what stands on the stack, of a code in cs -/
def h_athrow (b : Nat) (cs : List Nat) : XThr := fun s t => match s with
  | Sum.inr (Sum.inl (some a)) :: _ => if b ≤ a ∧ xcl t a ∈ cs then some (a, t) else none
  | _ => none
/-- throws a new one, made by its own constructor without arguments: n slots -/
def h_new (c n : Nat) : XThr := fun s t => if xwd s ≤ 8 then some (xnx t, xnew t c n) else none
/-- calls: k arguments beside the receiver -/
def xspl : Nat → List XV → XS → Option (List XV × XS)
  | 0, as, s => some (as, s)
  | k + 1, as, v :: s => xspl k (v :: as) s
  | _ + 1, _, [] => none
def g_stat (m k : Nat) : XCal := fun s _ => (xspl k [] s).map fun q => (m, q.1, q.2)
/-- a method called on what stands there, whatever its code (constructors) -/
def g_spec (m k : Nat) : XCal := fun s _ => (xspl k [] s).bind fun q => match q.2 with
  | Sum.inr (Sum.inl (some a)) :: r => some (m, vR (some a) :: q.1, r)
  | _ => none
def xtgt : List (Nat × Nat) → Nat → Option Nat
  | [], _ => none
  | q :: r, c => cond (Nat.beq q.1 c) (some q.2) (xtgt r c)
/-- tg: which method by the receiver's code -/
def g_virt (tg : List (Nat × Nat)) (k : Nat) : XCal := fun s t => (xspl k [] s).bind fun q => match q.2 with
  | Sum.inr (Sum.inl (some a)) :: r => (xtgt tg (xcl t a)).map fun m => (m, vR (some a) :: q.1, r)
  | _ => none
/-- tg: by the receiver's code the method and the fields (whole numbers) that go ahead of the arguments -/
def xtgl : List (Nat × Nat × List Nat) → Nat → Option (Nat × List Nat)
  | [], _ => none
  | q :: r, c => cond (Nat.beq q.1 c) (some q.2) (xtgl r c)
def g_lam (tg : List (Nat × Nat × List Nat)) (k : Nat) : XCal := fun s t => (xspl k [] s).bind fun q => match q.2 with
  | Sum.inr (Sum.inl (some a)) :: r => (xtgl tg (xcl t a)).map fun m => (m.1, (m.2.map fun f => vI (xfi t f a)) ++ q.1, r)
  | _ => none
theorem xwp_cv {K : XP} {m pc : Nat} {l : XL} {s : XS} {t : XSt} {Q : XRs → XSt → Prop} {nx k m' a c : Nat} {tg : List (Nat × Nat)} {as : List XV} {rest : XS} (hi : K.1 m pc = some (.inr (.inl (nx, g_virt tg k)))) (hs : xspl k [] s = some (as, vR (some a) :: rest)) (hc : xcl t a = c) (ht : xtgt tg c = some m') (h4 : xwd rest ≤ 8 ∧ K.2.2.2 m' < K.2.2.2 m ∧ (xlay (vR (some a) :: as)).length ≤ K.2.1 m') : xwp K m pc l s t Q = xca K m' (vR (some a) :: as) t (xk K m pc nx l rest Q) := by
  refine xwp_c hi ?_ h4
  subst hc
  show (xspl k [] s).bind _ = _
  rw [hs]
  show (xtgt tg (xcl t a)).map _ = _
  rw [ht]
  rfl
/-- one target alone -/
theorem xwp_cv1 {K : XP} {m pc : Nat} {l : XL} {s : XS} {t : XSt} {Q : XRs → XSt → Prop} {nx k m' a c : Nat} {as : List XV} {rest : XS} (hi : K.1 m pc = some (.inr (.inl (nx, g_virt [(c, m')] k)))) (hs : xspl k [] s = some (as, vR (some a) :: rest)) (h4 : xwd rest ≤ 8 ∧ K.2.2.2 m' < K.2.2.2 m ∧ (xlay (vR (some a) :: as)).length ≤ K.2.1 m') : xwp K m pc l s t Q = (xcl t a = c ∧ xca K m' (vR (some a) :: as) t (xk K m pc nx l rest Q)) := by
  refine xwp_cc (g := g_virt [(c, m')] k) hi ?_ h4
  show (xspl k [] s).bind _ = _
  rw [hs]
  show (cond (Nat.beq c (xcl t a)) (some m') none).map _ = _
  by_cases h : xcl t a = c
  · rw [if_pos h, h, Nat.beq_refl]
    rfl
  · rw [if_neg h]
    cases hb : Nat.beq c (xcl t a) with
    | false => rfl
    | true => exact absurd (Nat.eq_of_beq_eq_true hb).symm h
theorem xwp_cl {K : XP} {m pc : Nat} {l : XL} {s : XS} {t : XSt} {Q : XRs → XSt → Prop} {nx k m' a c : Nat} {tg : List (Nat × Nat × List Nat)} {fs : List Nat} {as : List XV} {rest : XS} (hi : K.1 m pc = some (.inr (.inl (nx, g_lam tg k)))) (hs : xspl k [] s = some (as, vR (some a) :: rest)) (hc : xcl t a = c) (ht : xtgl tg c = some (m', fs)) (h4 : xwd rest ≤ 8 ∧ K.2.2.2 m' < K.2.2.2 m ∧ (xlay ((fs.map fun f => vI (xfi t f a)) ++ as)).length ≤ K.2.1 m') : xwp K m pc l s t Q = xca K m' ((fs.map fun f => vI (xfi t f a)) ++ as) t (xk K m pc nx l rest Q) := by
  refine xwp_c hi ?_ h4
  subst hc
  show (xspl k [] s).bind _ = _
  rw [hs]
  show (xtgl tg (xcl t a)).map _ = _
  rw [ht]
  rfl
/-- the copy of a run of places; a whole copy -/
def i_acopy (b c nx : Nat) : XSem := fun l s t => match s with
  | Sum.inl n :: Sum.inl dp :: Sum.inr (Sum.inl (some d)) :: Sum.inl sp :: Sum.inr (Sum.inl (some a)) :: r =>
    if xwd r ≤ 8 then if (b ≤ d ∧ xcl t a = c ∧ xcl t d = c) ∧ (¬ sp < 0 ∧ ¬ dp < 0 ∧ ¬ n < 0) ∧ sp.toNatClampNeg + n.toNatClampNeg ≤ xln t a ∧ dp.toNatClampNeg + n.toNatClampNeg ≤ xln t d then some (nx, l, r, xsra t d (va_cpy (xai t a) (xai t d) sp.toNatClampNeg dp.toNatClampNeg n.toNatClampNeg)) else none else none
  | _ => none
def i_clone (c nx : Nat) : XSem := fun l s t => match s with
  | Sum.inr (Sum.inl (some a)) :: r => if xwd r ≤ 8 then if xcl t a = c then some (nx, l, vR (some (xnx t)) :: r, xsra (xnai t c (xln t a)) (xnx t) (xai t a)) else none else none
  | _ => none
def i_cloner (c nx : Nat) : XSem := fun l s t => match s with
  | Sum.inr (Sum.inl (some a)) :: r => if xwd r ≤ 8 then if xcl t a = c then some (nx, l, vR (some (xnx t)) :: r, xsrr (xnar t c (xln t a)) (xnx t) (xar t a)) else none else none
  | _ => none
/-- a lambda that keeps nothing -/
def i_lam0 (a nx : Nat) : XSem := fun l s t => if xwd s ≤ 8 then some (nx, l, vR (some a) :: s, t) else none
/-- a lambda made: its kept whole numbers -/
def xsfs (t : XSt) (a : Nat) : List Nat → List XV → Option XSt
  | [], [] => some t
  | f :: fs, Sum.inl x :: vs => xsfs (xsfi t f a x) a fs vs
  | _, _ => none
def i_lam (c : Nat) (fs : List Nat) (nx : Nat) : XSem := fun l s t => (xspl fs.length [] s).bind fun q => if xwd q.2 ≤ 8 then (xsfs (xnew t c fs.length) (xnx t) fs q.1).map fun t' => (nx, l, vR (some (xnx t)) :: q.2, t') else none
/-- a number by the receiver's code -/
def xkf : List (Nat × Int32) → Nat → Int32
  | [], _ => 0
  | q :: r, c => cond (Nat.beq q.1 c) q.2 (xkf r c)
def i_kcon (tg : List (Nat × Int32)) (nx : Nat) : XSem := fun l s t => match s with
  | Sum.inr (Sum.inl (some a)) :: r => if xwd r ≤ 8 then if xcl t a ∈ tg.map (fun q => q.1) then some (nx, l, vI (xkf tg (xcl t a)) :: r, t) else none else none
  | _ => none
theorem xkf_at {tg : List (Nat × Int32)} {c : Nat} (h : c ∈ tg.map (fun q => q.1)) : (c, xkf tg c) ∈ tg := by
  induction tg with
  | nil => cases h
  | cons q r ih =>
    obtain ⟨q1, q2⟩ := q
    show (c, cond (Nat.beq q1 c) q2 (xkf r c)) ∈ _
    cases hb : Nat.beq q1 c with
    | true =>
      rw [← Nat.eq_of_beq_eq_true hb]
      exact List.mem_cons_self
    | false =>
      rcases List.mem_cons.mp h with e | e
      · rw [show c = q1 from e, Nat.beq_refl] at hb
        cases hb
      · exact List.mem_cons_of_mem _ (ih e)
/-- numbers with a point: never a NaN -/
def i_fdiv (nx : Nat) : XSem := fun l s t => match s with
  | Sum.inr (Sum.inr (Sum.inr (Sum.inl y))) :: Sum.inr (Sum.inr (Sum.inr (Sum.inl x))) :: r => if FP.fdiv x y &&& 0x7fffffff ≤ 0x7f800000 then some (nx, l, vF (FP.fdiv x y) :: r, t) else none
  | _ => none
def i_ddiv (nx : Nat) : XSem := fun l s t => match s with
  | Sum.inr (Sum.inr (Sum.inr (Sum.inr y))) :: Sum.inr (Sum.inr (Sum.inr (Sum.inr x))) :: r => if FP.ddiv x y &&& 0x7fffffffffffffff ≤ 0x7ff0000000000000 then some (nx, l, vD (FP.ddiv x y) :: r, t) else none
  | _ => none
def i_f2d (nx : Nat) : XSem := fun l s t => match s with
  | Sum.inr (Sum.inr (Sum.inr (Sum.inl x))) :: r => if FP.f2d x &&& 0x7fffffffffffffff ≤ 0x7ff0000000000000 then some (nx, l, vD (FP.f2d x) :: r, t) else none
  | _ => none
def i_i2f (nx : Nat) : XSem := fun l s t => match s with
  | Sum.inl x :: r => some (nx, l, vF (FP.i2f x) :: r, t)
  | _ => none
def i_i2d (nx : Nat) : XSem := fun l s t => match s with
  | Sum.inl x :: r => some (nx, l, vD (FP.i2d x) :: r, t)
  | _ => none
def i_dcmp (op : CmpOp) (nx : Nat) : XSem := fun l s t => match s with
  | Sum.inr (Sum.inr (Sum.inr (Sum.inr y))) :: Sum.inr (Sum.inr (Sum.inr (Sum.inr x))) :: r => some (nx, l, vI (Op.cmpValue (FP.dcmp x y) op) :: r, t)
  | _ => none
/-- tables -/
def xfind (pc : Nat) : List (Nat × XI) → Option XI
  | [] => none
  | q :: r => cond (Nat.beq q.1 pc) (some q.2) (xfind pc r)
