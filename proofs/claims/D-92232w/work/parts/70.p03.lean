/-! PLAIN SIDE 3: the relation of the two states -/
/-- roles that are taken: 0 x; 1, 2 arrays of sheets, of halls; 3..7 lists; 8 tape; 9, 10 trail, its body; 11 turn; 12 against; 20+h halls; 30+h, 40+h, 50+h their fire, rate, rank; 60+s sheets; 70+s items; 100+b bookings -/
def lv (l : Nat → Int32) (n r : Nat) : Prop := r ≤ 12 ∨ (20 ≤ r ∧ r < 24) ∨ (30 ≤ r ∧ r < 34) ∨ (40 ≤ r ∧ r < 44) ∨ (50 ≤ r ∧ r < 54) ∨ (60 ≤ r ∧ r < 68 ∧ 0 ≤ l (r - 60)) ∨ (70 ≤ r ∧ r < 78 ∧ 0 ≤ l (r - 70)) ∨ (100 ≤ r ∧ r < 100 + n)
def kr (r : Nat) : Nat := if r = 0 then 0 else if r = 1 then 105 else if r = 2 then 104 else if r ≤ 7 then 16 else if r = 8 then 101 else if r = 9 then 1 else if r = 10 then 100 else if r = 11 then 103 else if r = 12 then 100 else if r < 30 then 2 else if r < 60 then 100 else if r < 70 then 4 else if r < 100 then 100 else 7
theorem lv_s {l : Nat → Int32} {n s : Nat} (hs : s < 8) (hl : 0 ≤ l s) : lv l n (60 + s) := Or.inr (Or.inr (Or.inr (Or.inr (Or.inr (Or.inl ⟨by omega, by omega, by rw [Nat.add_sub_cancel_left]; exact hl⟩)))))
theorem lv_i {l : Nat → Int32} {n s : Nat} (hs : s < 8) (hl : 0 ≤ l s) : lv l n (70 + s) := Or.inr (Or.inr (Or.inr (Or.inr (Or.inr (Or.inr (Or.inl ⟨by omega, by omega, by rw [Nat.add_sub_cancel_left]; exact hl⟩))))))
theorem lv_b {l : Nat → Int32} {n b : Nat} (hb : b < n) : lv l n (100 + b) := by unfold lv; omega
theorem lv_f {l : Nat → Int32} {n r : Nat} (h : r ≤ 12) : lv l n r := Or.inl h
theorem lv_h {l : Nat → Int32} {n h : Nat} (hh : h < 4) : lv l n (20 + h) ∧ lv l n (30 + h) ∧ lv l n (40 + h) ∧ lv l n (50 + h) := by unfold lv; omega
def XBs (ad : Nat → Nat) (l : Nat → Int32) (n : Nat) (S : XS) : Prop := (xClean S) ∧ (∀ r, lv l n r → xKD S (ad r) = some (kr r)) ∧ (∀ r, lv l n r → xRO S (ad r) = false) ∧ (∀ r r', lv l n r → lv l n r' → ad r = ad r' → r = r') ∧ (xLN S (ad 1) = 8) ∧ (xLN S (ad 2) = 4) ∧ (xLN S (ad 8) = 400) ∧ (xLN S (ad 10) = 16) ∧ (xLN S (ad 11) = 16) ∧ (xLN S (ad 12) = 16)
theorem XBs.cl {ad : Nat → Nat} {l : Nat → Int32} {n : Nat} {S : XS} (h : XBs ad l n S) : xClean S := h.1
theorem XBs.kd {ad : Nat → Nat} {l : Nat → Int32} {n : Nat} {S : XS} (h : XBs ad l n S) : ∀ r, lv l n r → xKD S (ad r) = some (kr r) := h.2.1
theorem XBs.ro {ad : Nat → Nat} {l : Nat → Int32} {n : Nat} {S : XS} (h : XBs ad l n S) : ∀ r, lv l n r → xRO S (ad r) = false := h.2.2.1
theorem XBs.inj {ad : Nat → Nat} {l : Nat → Int32} {n : Nat} {S : XS} (h : XBs ad l n S) : ∀ r r', lv l n r → lv l n r' → ad r = ad r' → r = r' := h.2.2.2.1
theorem XBs.l1 {ad : Nat → Nat} {l : Nat → Int32} {n : Nat} {S : XS} (h : XBs ad l n S) : xLN S (ad 1) = 8 := h.2.2.2.2.1
theorem XBs.l2 {ad : Nat → Nat} {l : Nat → Int32} {n : Nat} {S : XS} (h : XBs ad l n S) : xLN S (ad 2) = 4 := h.2.2.2.2.2.1
theorem XBs.l8 {ad : Nat → Nat} {l : Nat → Int32} {n : Nat} {S : XS} (h : XBs ad l n S) : xLN S (ad 8) = 400 := h.2.2.2.2.2.2.1
theorem XBs.l10 {ad : Nat → Nat} {l : Nat → Int32} {n : Nat} {S : XS} (h : XBs ad l n S) : xLN S (ad 10) = 16 := h.2.2.2.2.2.2.2.1
theorem XBs.l11 {ad : Nat → Nat} {l : Nat → Int32} {n : Nat} {S : XS} (h : XBs ad l n S) : xLN S (ad 11) = 16 := h.2.2.2.2.2.2.2.2.1
theorem XBs.l12 {ad : Nat → Nat} {l : Nat → Int32} {n : Nat} {S : XS} (h : XBs ad l n S) : xLN S (ad 12) = 16 := h.2.2.2.2.2.2.2.2.2
def XF (ad : Nat → Nat) (taped latest day status : Int32) (S : XS) : Prop := (∀ k, k < 8 → xFR S k (ad 0) = some (ad (k + 1))) ∧ (xFR S 11 (ad 0) = some (ad 9)) ∧ (xFR S 13 (ad 0) = some (ad 11)) ∧ (xFR S 14 (ad 0) = some (ad 12)) ∧ (xFI S 8 (ad 0) = taped) ∧ (xFI S 9 (ad 0) = latest) ∧ (xFI S 10 (ad 0) = day) ∧ (xFI S 12 (ad 0) = status)
theorem XF.r {ad : Nat → Nat} {taped latest day status : Int32} {S : XS} (h : XF ad taped latest day status S) : ∀ k, k < 8 → xFR S k (ad 0) = some (ad (k + 1)) := h.1
theorem XF.r11 {ad : Nat → Nat} {taped latest day status : Int32} {S : XS} (h : XF ad taped latest day status S) : xFR S 11 (ad 0) = some (ad 9) := h.2.1
theorem XF.r13 {ad : Nat → Nat} {taped latest day status : Int32} {S : XS} (h : XF ad taped latest day status S) : xFR S 13 (ad 0) = some (ad 11) := h.2.2.1
theorem XF.r14 {ad : Nat → Nat} {taped latest day status : Int32} {S : XS} (h : XF ad taped latest day status S) : xFR S 14 (ad 0) = some (ad 12) := h.2.2.2.1
theorem XF.i8 {ad : Nat → Nat} {taped latest day status : Int32} {S : XS} (h : XF ad taped latest day status S) : xFI S 8 (ad 0) = taped := h.2.2.2.2.1
theorem XF.i9 {ad : Nat → Nat} {taped latest day status : Int32} {S : XS} (h : XF ad taped latest day status S) : xFI S 9 (ad 0) = latest := h.2.2.2.2.2.1
theorem XF.i10 {ad : Nat → Nat} {taped latest day status : Int32} {S : XS} (h : XF ad taped latest day status S) : xFI S 10 (ad 0) = day := h.2.2.2.2.2.2.1
theorem XF.i12 {ad : Nat → Nat} {taped latest day status : Int32} {S : XS} (h : XF ad taped latest day status S) : xFI S 12 (ad 0) = status := h.2.2.2.2.2.2.2
def SH (S : XS) (a i : Nat) (lane many : Int32) (it : Nat → Int32) : Prop := xFI S 400 a = lane ∧ xFR S 401 a = some i ∧ nI (xLN S i) = many ∧ xLN S i ≤ 60 ∧ ∀ k, k < xLN S i → xAI S i k = it k
def SHT (ad : Nat → Nat) (l m it : Nat → Int32) (S : XS) : Prop := (∀ s, s < 8 → 0 ≤ l s → xAR S (ad 1) s = some (ad (60 + s)) ∧ SH S (ad (60 + s)) (ad (70 + s)) (l s) (m s) (fun k => it (60 * s + k))) ∧ (∀ s, s < 8 → ¬ 0 ≤ l s → xAR S (ad 1) s = none)
theorem SHT.sm {ad : Nat → Nat} {l m it : Nat → Int32} {S : XS} (h : SHT ad l m it S) : ∀ s, s < 8 → 0 ≤ l s → xAR S (ad 1) s = some (ad (60 + s)) ∧ SH S (ad (60 + s)) (ad (70 + s)) (l s) (m s) (fun k => it (60 * s + k)) := h.1
theorem SHT.nn {ad : Nat → Nat} {l m it : Nat → Int32} {S : XS} (h : SHT ad l m it S) : ∀ s, s < 8 → ¬ 0 ≤ l s → xAR S (ad 1) s = none := h.2
/-- a hall at a, its arrays at f, r, k -/
def HA (S : XS) (a f r k : Nat) (setup lic late forf : Int32) (fire rate rank : Nat → Int32) : Prop := (xKD S a = some 2) ∧ (xKD S f = some 100) ∧ (xKD S r = some 100) ∧ (xKD S k = some 100) ∧ (xFI S 200 a = setup) ∧ (xFI S 201 a = lic) ∧ (xFI S 202 a = late) ∧ (xFI S 203 a = forf) ∧ (xFR S 204 a = some f) ∧ (xFR S 205 a = some r) ∧ (xFR S 206 a = some k) ∧ (xLN S f = 2) ∧ (xLN S r = 5) ∧ (xLN S k = 5) ∧ (∀ i, i < 2 → xAI S f i = fire i) ∧ (∀ i, i < 5 → xAI S r i = rate i) ∧ (∀ i, i < 5 → xAI S k i = rank i)
theorem HA.ka {S : XS} {a f r k : Nat} {setup lic late forf : Int32} {fire rate rank : Nat → Int32} (h : HA S a f r k setup lic late forf fire rate rank) : xKD S a = some 2 := h.1
theorem HA.kf {S : XS} {a f r k : Nat} {setup lic late forf : Int32} {fire rate rank : Nat → Int32} (h : HA S a f r k setup lic late forf fire rate rank) : xKD S f = some 100 := h.2.1
theorem HA.kr {S : XS} {a f r k : Nat} {setup lic late forf : Int32} {fire rate rank : Nat → Int32} (h : HA S a f r k setup lic late forf fire rate rank) : xKD S r = some 100 := h.2.2.1
theorem HA.kk {S : XS} {a f r k : Nat} {setup lic late forf : Int32} {fire rate rank : Nat → Int32} (h : HA S a f r k setup lic late forf fire rate rank) : xKD S k = some 100 := h.2.2.2.1
theorem HA.i0 {S : XS} {a f r k : Nat} {setup lic late forf : Int32} {fire rate rank : Nat → Int32} (h : HA S a f r k setup lic late forf fire rate rank) : xFI S 200 a = setup := h.2.2.2.2.1
theorem HA.i1 {S : XS} {a f r k : Nat} {setup lic late forf : Int32} {fire rate rank : Nat → Int32} (h : HA S a f r k setup lic late forf fire rate rank) : xFI S 201 a = lic := h.2.2.2.2.2.1
theorem HA.i2 {S : XS} {a f r k : Nat} {setup lic late forf : Int32} {fire rate rank : Nat → Int32} (h : HA S a f r k setup lic late forf fire rate rank) : xFI S 202 a = late := h.2.2.2.2.2.2.1
theorem HA.i3 {S : XS} {a f r k : Nat} {setup lic late forf : Int32} {fire rate rank : Nat → Int32} (h : HA S a f r k setup lic late forf fire rate rank) : xFI S 203 a = forf := h.2.2.2.2.2.2.2.1
theorem HA.r4 {S : XS} {a f r k : Nat} {setup lic late forf : Int32} {fire rate rank : Nat → Int32} (h : HA S a f r k setup lic late forf fire rate rank) : xFR S 204 a = some f := h.2.2.2.2.2.2.2.2.1
theorem HA.r5 {S : XS} {a f r k : Nat} {setup lic late forf : Int32} {fire rate rank : Nat → Int32} (h : HA S a f r k setup lic late forf fire rate rank) : xFR S 205 a = some r := h.2.2.2.2.2.2.2.2.2.1
theorem HA.r6 {S : XS} {a f r k : Nat} {setup lic late forf : Int32} {fire rate rank : Nat → Int32} (h : HA S a f r k setup lic late forf fire rate rank) : xFR S 206 a = some k := h.2.2.2.2.2.2.2.2.2.2.1
theorem HA.lf {S : XS} {a f r k : Nat} {setup lic late forf : Int32} {fire rate rank : Nat → Int32} (h : HA S a f r k setup lic late forf fire rate rank) : xLN S f = 2 := h.2.2.2.2.2.2.2.2.2.2.2.1
theorem HA.lr {S : XS} {a f r k : Nat} {setup lic late forf : Int32} {fire rate rank : Nat → Int32} (h : HA S a f r k setup lic late forf fire rate rank) : xLN S r = 5 := h.2.2.2.2.2.2.2.2.2.2.2.2.1
theorem HA.lk {S : XS} {a f r k : Nat} {setup lic late forf : Int32} {fire rate rank : Nat → Int32} (h : HA S a f r k setup lic late forf fire rate rank) : xLN S k = 5 := h.2.2.2.2.2.2.2.2.2.2.2.2.2.1
theorem HA.af {S : XS} {a f r k : Nat} {setup lic late forf : Int32} {fire rate rank : Nat → Int32} (h : HA S a f r k setup lic late forf fire rate rank) : ∀ i, i < 2 → xAI S f i = fire i := h.2.2.2.2.2.2.2.2.2.2.2.2.2.2.1
theorem HA.ar {S : XS} {a f r k : Nat} {setup lic late forf : Int32} {fire rate rank : Nat → Int32} (h : HA S a f r k setup lic late forf fire rate rank) : ∀ i, i < 5 → xAI S r i = rate i := h.2.2.2.2.2.2.2.2.2.2.2.2.2.2.2.1
theorem HA.ak {S : XS} {a f r k : Nat} {setup lic late forf : Int32} {fire rate rank : Nat → Int32} (h : HA S a f r k setup lic late forf fire rate rank) : ∀ i, i < 5 → xAI S k i = rank i := h.2.2.2.2.2.2.2.2.2.2.2.2.2.2.2.2
def HAJ (S : XS) (a f r k : Nat) (J : MS) (h : Nat) : Prop := HA S a f r k (J 2 h) (J 3 h) (J 4 h) (J 5 h) (fun i => J 6 (2 * h + i)) (fun i => J 7 (5 * h + i)) (fun i => J 8 (5 * h + i))
def HAL (ad : Nat → Nat) (J : MS) (S : XS) : Prop := ∀ h, h < 4 → xAR S (ad 2) h = some (ad (20 + h)) ∧ HAJ S (ad (20 + h)) (ad (30 + h)) (ad (40 + h)) (ad (50 + h)) J h
def TAP (ad : Nat → Nat) (taped : Int32) (t : Nat → Int32) (S : XS) : Prop := ∀ i : Nat, (i : Int) < taped.toInt → xAI S (ad 8) i = (t i).toInt8.toInt32
def BF (S : XS) (a b : Nat) (o : Nat → Int32) (c : Int32) : Prop := xFI S 700 a = nI b ∧ (∀ k, k < 9 → xFI S (701 + k) a = o k) ∧ xFI S 710 a = c
/-- fields 701.. of a booking stand as the row's: hall, floor, day, from, to, people, use, licensed, came -/
def BKS (ad : Nat → Nat) (n : Nat) (rw_ c : Nat → Int32) (S : XS) : Prop := (LiS S (ad 3) n (fun b => ad (100 + b))) ∧ (∀ b, b < n → BF S (ad (100 + b)) b (fun k => rw_ (9 * b + k)) (c b))
theorem BKS.ls {ad : Nat → Nat} {n : Nat} {rw_ c : Nat → Int32} {S : XS} (h : BKS ad n rw_ c S) : LiS S (ad 3) n (fun b => ad (100 + b)) := h.1
theorem BKS.f {ad : Nat → Nat} {n : Nat} {rw_ c : Nat → Int32} {S : XS} (h : BKS ad n rw_ c S) : ∀ b, b < n → BF S (ad (100 + b)) b (fun k => rw_ (9 * b + k)) (c b) := h.2
def TL (S : XS) (a n : Nat) (f : Nat → Int32 × Int32 × Int32 × Int32) : Prop := ∃ L, LiS S a n L ∧ ∀ k, k < n → xKD S (L k) = some 9 ∧ xFI S 900 (L k) = (f k).1 ∧ xFI S 901 (L k) = (f k).2.1 ∧ xFI S 902 (L k) = (f k).2.2.1 ∧ xFI S 903 (L k) = (f k).2.2.2
def ML (S : XS) (a n : Nat) (f : Nat → Nat → Int32) : Prop := ∃ L, LiS S a n L ∧ ∀ k, k < n → xKD S (L k) = some 10 ∧ ∀ i, i < 5 → xFI S (1000 + i) (L k) = f i k
def TRA (ad : Nat → Nat) (many : Int32) (t : Nat → Int32) (S : XS) : Prop := (xFR S 100 (ad 9) = some (ad 10)) ∧ (xFI S 101 (ad 9) = many) ∧ (∀ k : Nat, (k : Int) < many.toInt → xAI S (ad 10) k = t k)
theorem TRA.r {ad : Nat → Nat} {many : Int32} {t : Nat → Int32} {S : XS} (h : TRA ad many t S) : xFR S 100 (ad 9) = some (ad 10) := h.1
theorem TRA.i {ad : Nat → Nat} {many : Int32} {t : Nat → Int32} {S : XS} (h : TRA ad many t S) : xFI S 101 (ad 9) = many := h.2.1
theorem TRA.a {ad : Nat → Nat} {many : Int32} {t : Nat → Int32} {S : XS} (h : TRA ad many t S) : ∀ k : Nat, (k : Int) < many.toInt → xAI S (ad 10) k = t k := h.2.2
def BBk (ad : Nat → Nat) (S : XS) : Prop := ∀ l l' : Nat, 3 ≤ l → l ≤ 7 → 3 ≤ l' → l' ≤ 7 → l ≠ l' → ∀ e, xFR S 1600 (ad l) = some e → xFR S 1600 (ad l') = some e → xRO S e = true
def StrAt (S : XS) (a : Nat) (bs : List Nat) : Prop := xKD S a = some 17 ∧ xRO S a = true ∧ ∃ v, xFR S 1700 a = some v ∧ xFI S 1701 a = 0 ∧ xKD S v = some 101 ∧ xRO S v = true ∧ xLN S v = bs.length ∧ ∀ i, i < bs.length → xAI S v i = nI (bs.getD i 0)
def xBytes (s : String) : List Nat := s.toList.map Char.toNat
def uNames : List String := ["regular", "party", "club", "funeral", "school"]
def xWords : List (Nat × String) := [(17, ""), (18, "hall"), (19, "setup"), (20, "licences"), (21, "rate"), (22, "first"), (23, "late"), (24, "fire")]
def CON (S : XS) : Prop := (xKD S (xST S 1) = some 106) ∧ (xRO S (xST S 1) = true) ∧ (xLN S (xST S 1) = 5) ∧ (∀ u, u < 5 → ∃ a, xAR S (xST S 1) u = some a ∧ StrAt S a (xBytes (uNames.getD u ""))) ∧ (∀ w ∈ xWords, StrAt S (xST S w.1) (xBytes w.2))
theorem CON.kn {S : XS} (h : CON S) : xKD S (xST S 1) = some 106 := h.1
theorem CON.rn {S : XS} (h : CON S) : xRO S (xST S 1) = true := h.2.1
theorem CON.ln {S : XS} (h : CON S) : xLN S (xST S 1) = 5 := h.2.2.1
theorem CON.nm {S : XS} (h : CON S) : ∀ u, u < 5 → ∃ a, xAR S (xST S 1) u = some a ∧ StrAt S a (xBytes (uNames.getD u "")) := h.2.2.2.1
theorem CON.wd {S : XS} (h : CON S) : ∀ w ∈ xWords, StrAt S (xST S w.1) (xBytes w.2) := h.2.2.2.2
/-- the order by times t of the first n: which is at place i -/
def cpos (t : Nat → Int32) (v : Int32) : Nat → Nat
  | 0 => 0
  | n + 1 => if v < t n then cpos t v n else n + 1
def insF {α : Type} (f : Nat → α) (p : Nat) (v : α) : Nat → α := fun i => if i < p then f i else if i = p then v else f (i - 1)
def ordF (t : Nat → Int32) : Nat → Nat → Nat
  | 0 => fun i => i
  | n + 1 => insF (ordF t n) (cpos (fun i => t (ordF t n i)) (t n) n) n
def coF (J : MS) (k : Nat) : Int32 × Int32 × Int32 × Int32 := let i := ordF (J 35) (nC J) k; (J 34 i, 15 * J 35 i, J 36 i, 0)
def keF (J : MS) (k : Nat) : Int32 × Int32 × Int32 × Int32 := let i := ordF (J 41) (nG J) k; (J 38 i, J 41 i, J 39 i, J 40 i)
def loF (J : MS) (k : Nat) : Int32 × Int32 × Int32 × Int32 := let i := ordF (J 44) (nL J) k; (J 43 i, J 44 i, J 45 i, 0)
def XA (ad : Nat → Nat) (J : MS) (S : XS) : Prop := (JI J) ∧ (XBs ad (J 9) (nB J) S) ∧ (XF ad (J 13 0) (J 14 0) (J 27 0) (J 1 0) S) ∧ (SHT ad (J 9) (J 10) (J 11) S) ∧ (HAL ad J S) ∧ (TAP ad (J 13 0) (J 12) S) ∧ (BKS ad (nB J) (J 25) (J 26) S) ∧ (TL S (ad 4) (nC J) (coF J)) ∧ (TL S (ad 5) (nG J) (keF J)) ∧ (TL S (ad 6) (nL J) (loF J)) ∧ (ML S (ad 7) (nM J) (fun i k => J (47 + i) k)) ∧ (TRA ad (J 53 0) (J 52) S) ∧ (BBk ad S) ∧ (CON S)
theorem XA.ji {ad : Nat → Nat} {J : MS} {S : XS} (h : XA ad J S) : JI J := h.1
theorem XA.b {ad : Nat → Nat} {J : MS} {S : XS} (h : XA ad J S) : XBs ad (J 9) (nB J) S := h.2.1
theorem XA.f {ad : Nat → Nat} {J : MS} {S : XS} (h : XA ad J S) : XF ad (J 13 0) (J 14 0) (J 27 0) (J 1 0) S := h.2.2.1
theorem XA.sh {ad : Nat → Nat} {J : MS} {S : XS} (h : XA ad J S) : SHT ad (J 9) (J 10) (J 11) S := h.2.2.2.1
theorem XA.ha {ad : Nat → Nat} {J : MS} {S : XS} (h : XA ad J S) : HAL ad J S := h.2.2.2.2.1
theorem XA.tp {ad : Nat → Nat} {J : MS} {S : XS} (h : XA ad J S) : TAP ad (J 13 0) (J 12) S := h.2.2.2.2.2.1
theorem XA.bk {ad : Nat → Nat} {J : MS} {S : XS} (h : XA ad J S) : BKS ad (nB J) (J 25) (J 26) S := h.2.2.2.2.2.2.1
theorem XA.co {ad : Nat → Nat} {J : MS} {S : XS} (h : XA ad J S) : TL S (ad 4) (nC J) (coF J) := h.2.2.2.2.2.2.2.1
theorem XA.ke {ad : Nat → Nat} {J : MS} {S : XS} (h : XA ad J S) : TL S (ad 5) (nG J) (keF J) := h.2.2.2.2.2.2.2.2.1
theorem XA.lo {ad : Nat → Nat} {J : MS} {S : XS} (h : XA ad J S) : TL S (ad 6) (nL J) (loF J) := h.2.2.2.2.2.2.2.2.2.1
theorem XA.me {ad : Nat → Nat} {J : MS} {S : XS} (h : XA ad J S) : ML S (ad 7) (nM J) (fun i k => J (47 + i) k) := h.2.2.2.2.2.2.2.2.2.2.1
theorem XA.tr {ad : Nat → Nat} {J : MS} {S : XS} (h : XA ad J S) : TRA ad (J 53 0) (J 52) S := h.2.2.2.2.2.2.2.2.2.2.2.1
theorem XA.bb {ad : Nat → Nat} {J : MS} {S : XS} (h : XA ad J S) : BBk ad S := h.2.2.2.2.2.2.2.2.2.2.2.2.1
theorem XA.cn {ad : Nat → Nat} {J : MS} {S : XS} (h : XA ad J S) : CON S := h.2.2.2.2.2.2.2.2.2.2.2.2.2
def XR (x : Nat) (J : MS) (S : XS) : Prop := ∃ ad, ad 0 = x ∧ XA ad J S
/-! what is kept -/
variable {M : Nat → Prop} {S S' : XS} {ad : Nat → Nat}
theorem XBs.kept {l : Nat → Int32} {n : Nat} (h : XBs ad l n S) (c : Chg M S S') : XBs ad l n S' := by
  have g : ∀ r, lv l n r → xKD S (ad r) ≠ none := fun r hr => some_ne (h.kd r hr)
  have e : ∀ r, r ≤ 12 → xLN S' (ad r) = xLN S (ad r) := fun r hr => c.ln _ (g r (Or.inl hr))
  exact ⟨c.cl, fun r hr => (c.kd _ (g r hr)).trans (h.kd r hr), fun r hr => by rw [c.ro]; exact h.ro r hr, h.inj, (e 1 (by decide)).trans h.l1, (e 2 (by decide)).trans h.l2, (e 8 (by decide)).trans h.l8, (e 10 (by decide)).trans h.l10, (e 11 (by decide)).trans h.l11, (e 12 (by decide)).trans h.l12⟩
theorem XF.kept {t la d st : Int32} (h : XF ad t la d st S) (c : Chg M S S') (hk : xKD S (ad 0) ≠ none) (h0 : ¬ M (ad 0)) : XF ad t la d st S' :=
  ⟨fun k hk' => (c.fr _ hk h0 k).trans (h.r k hk'), (c.fr _ hk h0 11).trans h.r11, (c.fr _ hk h0 13).trans h.r13, (c.fr _ hk h0 14).trans h.r14, (c.fi _ hk h0 8).trans h.i8, (c.fi _ hk h0 9).trans h.i9, (c.fi _ hk h0 10).trans h.i10, (c.fi _ hk h0 12).trans h.i12⟩
theorem SH.kept {a i : Nat} {l m : Int32} {it : Nat → Int32} (h : SH S a i l m it) (c : Chg M S S') (ka : xKD S a ≠ none) (ki : xKD S i ≠ none) (ha : ¬ M a) (hi : ¬ M i) : SH S' a i l m it := by
  obtain ⟨h1, h2, h3, h4, h5⟩ := h
  refine ⟨(c.fi a ka ha 400).trans h1, (c.fr a ka ha 401).trans h2, by rw [c.ln i ki]; exact h3, by rw [c.ln i ki]; exact h4, fun k hk => ?_⟩
  rw [c.ln i ki] at hk
  rw [c.ai i ki hi]
  exact h5 k hk
theorem SHT.kept {l m it : Nat → Int32} {n : Nat} (h : SHT ad l m it S) (b : XBs ad l n S) (c : Chg M S S') (h1 : ¬ M (ad 1)) (h2 : ∀ s, s < 8 → 0 ≤ l s → ¬ M (ad (60 + s)) ∧ ¬ M (ad (70 + s))) : SHT ad l m it S' := by
  have k1 : xKD S (ad 1) ≠ none := some_ne (b.kd 1 (Or.inl (by decide)))
  refine ⟨fun s hs hl => ?_, fun s hs hl => ?_⟩
  · obtain ⟨q1, q2⟩ := h.sm s hs hl
    refine ⟨by rw [c.ar _ k1 h1]; exact q1, q2.kept c (some_ne (b.kd (60 + s) (lv_s hs hl))) (some_ne (b.kd (70 + s) (lv_i hs hl))) (h2 s hs hl).1 (h2 s hs hl).2⟩
  · rw [c.ar _ k1 h1]; exact h.nn s hs hl
theorem HA.kept {a f r k : Nat} {v0 v1 v2 v3 : Int32} {fi ra rk : Nat → Int32} (h : HA S a f r k v0 v1 v2 v3 fi ra rk) (c : Chg M S S') (ha : ¬ M a) (hf : ¬ M f) (hr : ¬ M r) (hk : ¬ M k) : HA S' a f r k v0 v1 v2 v3 fi ra rk := by
  have na := some_ne h.ka; have nf := some_ne h.kf; have nr := some_ne h.kr; have nk := some_ne h.kk
  exact ⟨(c.kd a na).trans h.ka, (c.kd f nf).trans h.kf, (c.kd r nr).trans h.kr, (c.kd k nk).trans h.kk, (c.fi a na ha _).trans h.i0, (c.fi a na ha _).trans h.i1, (c.fi a na ha _).trans h.i2, (c.fi a na ha _).trans h.i3, (c.fr a na ha _).trans h.r4, (c.fr a na ha _).trans h.r5, (c.fr a na ha _).trans h.r6, (c.ln f nf).trans h.lf, (c.ln r nr).trans h.lr, (c.ln k nk).trans h.lk, fun i hi => by rw [c.ai f nf hf]; exact h.af i hi, fun i hi => by rw [c.ai r nr hr]; exact h.ar i hi, fun i hi => by rw [c.ai k nk hk]; exact h.ak i hi⟩
theorem HAL.kept {J : MS} (h : HAL ad J S) (c : Chg M S S') (k2 : xKD S (ad 2) ≠ none) (h2 : ¬ M (ad 2)) (hh : ∀ h, h < 4 → ¬ M (ad (20 + h)) ∧ ¬ M (ad (30 + h)) ∧ ¬ M (ad (40 + h)) ∧ ¬ M (ad (50 + h))) : HAL ad J S' := fun i hi =>
  ⟨by rw [c.ar _ k2 h2]; exact (h i hi).1, (h i hi).2.kept c (hh i hi).1 (hh i hi).2.1 (hh i hi).2.2.1 (hh i hi).2.2.2⟩
theorem TAP.kept {t : Int32} {f : Nat → Int32} (h : TAP ad t f S) (c : Chg M S S') (k : xKD S (ad 8) ≠ none) (h8 : ¬ M (ad 8)) : TAP ad t f S' := fun i hi => by rw [c.ai _ k h8]; exact h i hi
theorem BF.kept {a b : Nat} {o : Nat → Int32} {v : Int32} (h : BF S a b o v) (c : Chg M S S') (k : xKD S a ≠ none) (ha : ¬ M a) : BF S' a b o v :=
  ⟨(c.fi a k ha _).trans h.1, fun j hj => (c.fi a k ha _).trans (h.2.1 j hj), (c.fi a k ha _).trans h.2.2⟩
theorem BKS.kept {n : Nat} {o v l : Nat → Int32} (h : BKS ad n o v S) (b : XBs ad l n S) (c : Chg M S S') (h3 : ¬ M (ad 3)) (he : ∀ e, xFR S 1600 (ad 3) = some e → ¬ M e) (hb : ∀ b, b < n → ¬ M (ad (100 + b))) : BKS ad n o v S' :=
  ⟨h.ls.kept c h3 he, fun i hi => (h.f i hi).kept c (some_ne (b.kd (100 + i) (lv_b hi))) (hb i hi)⟩
theorem TL.kept {a n : Nat} {f : Nat → Int32 × Int32 × Int32 × Int32} (h : TL S a n f) (c : Chg M S S') (ha : ¬ M a) (he : ∀ e, xFR S 1600 a = some e → ¬ M e) (h9 : ∀ q, xKD S q = some 9 → ¬ M q) : TL S' a n f := by
  obtain ⟨L, h1, h2⟩ := h
  refine ⟨L, h1.kept c ha he, fun k hk => ?_⟩
  obtain ⟨q0, q1, q2, q3, q4⟩ := h2 k hk
  have g := some_ne q0
  have m := h9 _ q0
  exact ⟨(c.kd _ g).trans q0, (c.fi _ g m _).trans q1, (c.fi _ g m _).trans q2, (c.fi _ g m _).trans q3, (c.fi _ g m _).trans q4⟩
theorem ML.kept {a n : Nat} {f : Nat → Nat → Int32} (h : ML S a n f) (c : Chg M S S') (ha : ¬ M a) (he : ∀ e, xFR S 1600 a = some e → ¬ M e) (h9 : ∀ q, xKD S q = some 10 → ¬ M q) : ML S' a n f := by
  obtain ⟨L, h1, h2⟩ := h
  refine ⟨L, h1.kept c ha he, fun k hk => ?_⟩
  obtain ⟨q0, q1⟩ := h2 k hk
  have g := some_ne q0
  have m := h9 _ q0
  exact ⟨(c.kd _ g).trans q0, fun i hi => (c.fi _ g m _).trans (q1 i hi)⟩
theorem TRA.kept {m : Int32} {t : Nat → Int32} (h : TRA ad m t S) (c : Chg M S S') (k9 : xKD S (ad 9) ≠ none) (k10 : xKD S (ad 10) ≠ none) (h9 : ¬ M (ad 9)) (h10 : ¬ M (ad 10)) : TRA ad m t S' :=
  ⟨(c.fr _ k9 h9 _).trans h.r, (c.fi _ k9 h9 _).trans h.i, fun k hk => by rw [c.ai _ k10 h10]; exact h.a k hk⟩
theorem BBk.kept (h : BBk ad S) (c : Chg M S S') (k : ∀ l, 3 ≤ l → l ≤ 7 → xKD S (ad l) ≠ none) (hm : ∀ l, 3 ≤ l → l ≤ 7 → ¬ M (ad l)) : BBk ad S' := fun l l' a1 a2 a3 a4 a5 e e1 e2 => by
  rw [c.fr _ (k l a1 a2) (hm l a1 a2)] at e1
  rw [c.fr _ (k l' a3 a4) (hm l' a3 a4)] at e2
  rw [c.ro]
  exact h l l' a1 a2 a3 a4 a5 e e1 e2
theorem StrAt.kept {a : Nat} {bs : List Nat} (h : StrAt S a bs) (c : Chg M S S') (hm : ∀ q, xRO S q = true → ¬ M q) : StrAt S' a bs := by
  obtain ⟨h1, h2, v, h3, h4, h5, h6, h7, h8⟩ := h
  have ga := some_ne h1; have gv := some_ne h5
  refine ⟨(c.kd a ga).trans h1, by rw [c.ro]; exact h2, v, (c.fr a ga (hm a h2) _).trans h3, (c.fi a ga (hm a h2) _).trans h4, (c.kd v gv).trans h5, by rw [c.ro]; exact h6, (c.ln v gv).trans h7, fun i hi => ?_⟩
  rw [c.ai v gv (hm v h6)]
  exact h8 i hi
theorem CON.kept (h : CON S) (c : Chg M S S') (hm : ∀ q, xRO S q = true → ¬ M q) : CON S' := by
  have g := some_ne h.kn
  refine ⟨by rw [c.st]; exact (c.kd _ g).trans h.kn, by rw [c.st, c.ro]; exact h.rn, by rw [c.st]; exact (c.ln _ g).trans h.ln, fun u hu => ?_, fun w hw => by rw [c.st]; exact (h.wd w hw).kept c hm⟩
  obtain ⟨a, q1, q2⟩ := h.nm u hu
  exact ⟨a, by rw [c.st, c.ar _ g (hm _ h.rn)]; exact q1, q2.kept c hm⟩
