set_option maxRecDepth 100000
section GWL
variable {p : Program} {l : Launch} {e : Env} {s : State} {m : MethodId} {below : List Frame} {meth : Method} {c : Code} {H : Heap} {locs : List Loc} {G : Tgl} {b L : Nat} {xs : Nat → Int32}
def w_L_law_b2650 (b L : Nat) (xs : Nat → Int32) (k28 : Option Nat → Option Nat → Option Nat → Option Nat → Int32 → Tst → Prop) (Q : Int32 → Tst → Prop) (X : String → Nat → Tst → Prop) (l1 : Option Nat) (l2 : Option Nat) (l3 : Option Nat) (l4 : Option Nat) (l5 : Int32) (σ : Tst) : Prop := k28 l1 l2 l3 l4 (l5 + 5) σ
def w_L_law_b2634 (b L : Nat) (xs : Nat → Int32) (k28 : Option Nat → Option Nat → Option Nat → Option Nat → Int32 → Tst → Prop) (Q : Int32 → Tst → Prop) (X : String → Nat → Tst → Prop) (l1 : Option Nat) (l2 : Option Nat) (l3 : Option Nat) (l4 : Option Nat) (l5 : Int32) (σ : Tst) : Prop := w_L_law_b2650 b L xs k28 Q X l1 l2 l3 l4 l5 σ
def w_L_law_b2590 (b L : Nat) (xs : Nat → Int32) (k28 : Option Nat → Option Nat → Option Nat → Option Nat → Int32 → Tst → Prop) (Q : Int32 → Tst → Prop) (X : String → Nat → Tst → Prop) (l1 : Option Nat) (l2 : Option Nat) (l3 : Option Nat) (l4 : Option Nat) (l5 : Int32) (σ : Tst) : Prop := w_L_law_b2650 b L xs k28 Q X l1 l2 l3 l4 l5 σ
def w_L_law_b2546 (b L : Nat) (xs : Nat → Int32) (k28 : Option Nat → Option Nat → Option Nat → Option Nat → Int32 → Tst → Prop) (Q : Int32 → Tst → Prop) (X : String → Nat → Tst → Prop) (l1 : Option Nat) (l2 : Option Nat) (l3 : Option Nat) (l4 : Option Nat) (l5 : Int32) (σ : Tst) : Prop := w_L_law_b2650 b L xs k28 Q X l1 l2 l3 l4 l5 σ
def w_L_law_b2490 (b L : Nat) (xs : Nat → Int32) (k28 : Option Nat → Option Nat → Option Nat → Option Nat → Int32 → Tst → Prop) (Q : Int32 → Tst → Prop) (X : String → Nat → Tst → Prop) (l1 : Option Nat) (l2 : Option Nat) (l3 : Option Nat) (l4 : Option Nat) (l5 : Int32) (σ : Tst) : Prop := w_L_law_b2650 b L xs k28 Q X l1 l2 l3 l4 l5 σ
def w_L_law_b2484 (b L : Nat) (xs : Nat → Int32) (k28 : Option Nat → Option Nat → Option Nat → Option Nat → Int32 → Tst → Prop) (Q : Int32 → Tst → Prop) (X : String → Nat → Tst → Prop) (l1 : Option Nat) (l2 : Option Nat) (l3 : Option Nat) (l4 : Option Nat) (l5 : Int32) (s0 : Int64) (s1 : Int64) (σ : Tst) : Prop := w_if ((tw_lcmp s0 s1) = 0) (w_L_law_b2490 b L xs k28 Q X l1 l2 l3 l4 l5 σ) ((0 : Int32) = 1)
def w_L_law_b2439 (b L : Nat) (xs : Nat → Int32) (k28 : Option Nat → Option Nat → Option Nat → Option Nat → Int32 → Tst → Prop) (Q : Int32 → Tst → Prop) (X : String → Nat → Tst → Prop) (l1 : Option Nat) (l2 : Option Nat) (l3 : Option Nat) (l4 : Option Nat) (l5 : Int32) (σ : Tst) : Prop := w_L_law_b2650 b L xs k28 Q X l1 l2 l3 l4 l5 σ
def w_L_law_b2395 (b L : Nat) (xs : Nat → Int32) (k28 : Option Nat → Option Nat → Option Nat → Option Nat → Int32 → Tst → Prop) (Q : Int32 → Tst → Prop) (X : String → Nat → Tst → Prop) (l1 : Option Nat) (l2 : Option Nat) (l3 : Option Nat) (l4 : Option Nat) (l5 : Int32) (σ : Tst) : Prop := w_L_law_b2650 b L xs k28 Q X l1 l2 l3 l4 l5 σ
def w_L_law_b2351 (b L : Nat) (xs : Nat → Int32) (k28 : Option Nat → Option Nat → Option Nat → Option Nat → Int32 → Tst → Prop) (Q : Int32 → Tst → Prop) (X : String → Nat → Tst → Prop) (l1 : Option Nat) (l2 : Option Nat) (l3 : Option Nat) (l4 : Option Nat) (l5 : Int32) (σ : Tst) : Prop := w_L_law_b2650 b L xs k28 Q X l1 l2 l3 l4 l5 σ
def w_L_law_b2295 (b L : Nat) (xs : Nat → Int32) (k28 : Option Nat → Option Nat → Option Nat → Option Nat → Int32 → Tst → Prop) (Q : Int32 → Tst → Prop) (X : String → Nat → Tst → Prop) (l1 : Option Nat) (l2 : Option Nat) (l3 : Option Nat) (l4 : Option Nat) (l5 : Int32) (σ : Tst) : Prop := w_L_law_b2650 b L xs k28 Q X l1 l2 l3 l4 l5 σ
def w_L_law_b2239 (b L : Nat) (xs : Nat → Int32) (k28 : Option Nat → Option Nat → Option Nat → Option Nat → Int32 → Tst → Prop) (Q : Int32 → Tst → Prop) (X : String → Nat → Tst → Prop) (l1 : Option Nat) (l2 : Option Nat) (l3 : Option Nat) (l4 : Option Nat) (l5 : Int32) (σ : Tst) : Prop := w_L_law_b2650 b L xs k28 Q X l1 l2 l3 l4 l5 σ
def w_L_law_b2183 (b L : Nat) (xs : Nat → Int32) (k28 : Option Nat → Option Nat → Option Nat → Option Nat → Int32 → Tst → Prop) (Q : Int32 → Tst → Prop) (X : String → Nat → Tst → Prop) (l1 : Option Nat) (l2 : Option Nat) (l3 : Option Nat) (l4 : Option Nat) (l5 : Int32) (σ : Tst) : Prop := w_L_law_b2650 b L xs k28 Q X l1 l2 l3 l4 l5 σ
def w_L_law_b2127 (b L : Nat) (xs : Nat → Int32) (k28 : Option Nat → Option Nat → Option Nat → Option Nat → Int32 → Tst → Prop) (Q : Int32 → Tst → Prop) (X : String → Nat → Tst → Prop) (l1 : Option Nat) (l2 : Option Nat) (l3 : Option Nat) (l4 : Option Nat) (l5 : Int32) (σ : Tst) : Prop := w_L_law_b2650 b L xs k28 Q X l1 l2 l3 l4 l5 σ
def w_L_law_b2083 (b L : Nat) (xs : Nat → Int32) (k28 : Option Nat → Option Nat → Option Nat → Option Nat → Int32 → Tst → Prop) (Q : Int32 → Tst → Prop) (X : String → Nat → Tst → Prop) (l1 : Option Nat) (l2 : Option Nat) (l3 : Option Nat) (l4 : Option Nat) (l5 : Int32) (σ : Tst) : Prop := w_L_law_b2650 b L xs k28 Q X l1 l2 l3 l4 l5 σ
def w_L_law_b2015 (b L : Nat) (xs : Nat → Int32) (k28 : Option Nat → Option Nat → Option Nat → Option Nat → Int32 → Tst → Prop) (Q : Int32 → Tst → Prop) (X : String → Nat → Tst → Prop) (l1 : Option Nat) (l2 : Option Nat) (l3 : Option Nat) (l4 : Option Nat) (l5 : Int32) (σ : Tst) : Prop := w_L_law_b2650 b L xs k28 Q X l1 l2 l3 l4 l5 σ
def w_L_law_b2013 (b L : Nat) (xs : Nat → Int32) (Q : Int32 → Tst → Prop) (X : String → Nat → Tst → Prop) (σ : Tst) : Prop := (0 : Int32) = 1
def w_L_law_b1926 (b L : Nat) (xs : Nat → Int32) (k28 : Option Nat → Option Nat → Option Nat → Option Nat → Int32 → Tst → Prop) (Q : Int32 → Tst → Prop) (X : String → Nat → Tst → Prop) (l1 : Option Nat) (l2 : Option Nat) (l3 : Option Nat) (l4 : Option Nat) (l5 : Int32) (σ : Tst) : Prop := w_L_law_b2650 b L xs k28 Q X l1 l2 l3 l4 l5 σ
def w_L_law_b1858 (b L : Nat) (xs : Nat → Int32) (k28 : Option Nat → Option Nat → Option Nat → Option Nat → Int32 → Tst → Prop) (Q : Int32 → Tst → Prop) (X : String → Nat → Tst → Prop) (l1 : Option Nat) (l2 : Option Nat) (l3 : Option Nat) (l4 : Option Nat) (l5 : Int32) (σ : Tst) : Prop := w_L_law_b2650 b L xs k28 Q X l1 l2 l3 l4 l5 σ
def w_L_law_b1790 (b L : Nat) (xs : Nat → Int32) (k28 : Option Nat → Option Nat → Option Nat → Option Nat → Int32 → Tst → Prop) (Q : Int32 → Tst → Prop) (X : String → Nat → Tst → Prop) (l1 : Option Nat) (l2 : Option Nat) (l3 : Option Nat) (l4 : Option Nat) (l5 : Int32) (σ : Tst) : Prop := w_L_law_b2650 b L xs k28 Q X l1 l2 l3 l4 l5 σ
def w_L_law_b1710 (b L : Nat) (xs : Nat → Int32) (k28 : Option Nat → Option Nat → Option Nat → Option Nat → Int32 → Tst → Prop) (Q : Int32 → Tst → Prop) (X : String → Nat → Tst → Prop) (l1 : Option Nat) (l2 : Option Nat) (l3 : Option Nat) (l4 : Option Nat) (l5 : Int32) (σ : Tst) : Prop := w_L_law_b2650 b L xs k28 Q X l1 l2 l3 l4 l5 σ
def w_L_law_b1630 (b L : Nat) (xs : Nat → Int32) (k28 : Option Nat → Option Nat → Option Nat → Option Nat → Int32 → Tst → Prop) (Q : Int32 → Tst → Prop) (X : String → Nat → Tst → Prop) (l1 : Option Nat) (l2 : Option Nat) (l3 : Option Nat) (l4 : Option Nat) (l5 : Int32) (σ : Tst) : Prop := w_L_law_b2650 b L xs k28 Q X l1 l2 l3 l4 l5 σ
def w_L_law_b1624 (b L : Nat) (xs : Nat → Int32) (k28 : Option Nat → Option Nat → Option Nat → Option Nat → Int32 → Tst → Prop) (Q : Int32 → Tst → Prop) (X : String → Nat → Tst → Prop) (l1 : Option Nat) (l2 : Option Nat) (l3 : Option Nat) (l4 : Option Nat) (l5 : Int32) (s0 : Int64) (s1 : Int64) (σ : Tst) : Prop := w_if ((tw_lcmp s0 s1) = 0) (w_L_law_b1630 b L xs k28 Q X l1 l2 l3 l4 l5 σ) ((0 : Int32) = 1)
def w_L_law_b1531 (b L : Nat) (xs : Nat → Int32) (k28 : Option Nat → Option Nat → Option Nat → Option Nat → Int32 → Tst → Prop) (Q : Int32 → Tst → Prop) (X : String → Nat → Tst → Prop) (l1 : Option Nat) (l2 : Option Nat) (l3 : Option Nat) (l4 : Option Nat) (l5 : Int32) (σ : Tst) : Prop := w_L_law_b2650 b L xs k28 Q X l1 l2 l3 l4 l5 σ
def w_L_law_b1463 (b L : Nat) (xs : Nat → Int32) (k28 : Option Nat → Option Nat → Option Nat → Option Nat → Int32 → Tst → Prop) (Q : Int32 → Tst → Prop) (X : String → Nat → Tst → Prop) (l1 : Option Nat) (l2 : Option Nat) (l3 : Option Nat) (l4 : Option Nat) (l5 : Int32) (σ : Tst) : Prop := w_L_law_b2650 b L xs k28 Q X l1 l2 l3 l4 l5 σ
def w_L_law_b1395 (b L : Nat) (xs : Nat → Int32) (k28 : Option Nat → Option Nat → Option Nat → Option Nat → Int32 → Tst → Prop) (Q : Int32 → Tst → Prop) (X : String → Nat → Tst → Prop) (l1 : Option Nat) (l2 : Option Nat) (l3 : Option Nat) (l4 : Option Nat) (l5 : Int32) (σ : Tst) : Prop := w_L_law_b2650 b L xs k28 Q X l1 l2 l3 l4 l5 σ
def w_L_law_b1327 (b L : Nat) (xs : Nat → Int32) (k28 : Option Nat → Option Nat → Option Nat → Option Nat → Int32 → Tst → Prop) (Q : Int32 → Tst → Prop) (X : String → Nat → Tst → Prop) (l1 : Option Nat) (l2 : Option Nat) (l3 : Option Nat) (l4 : Option Nat) (l5 : Int32) (σ : Tst) : Prop := w_L_law_b2650 b L xs k28 Q X l1 l2 l3 l4 l5 σ
def w_L_law_b1259 (b L : Nat) (xs : Nat → Int32) (k28 : Option Nat → Option Nat → Option Nat → Option Nat → Int32 → Tst → Prop) (Q : Int32 → Tst → Prop) (X : String → Nat → Tst → Prop) (l1 : Option Nat) (l2 : Option Nat) (l3 : Option Nat) (l4 : Option Nat) (l5 : Int32) (σ : Tst) : Prop := w_L_law_b2650 b L xs k28 Q X l1 l2 l3 l4 l5 σ
def w_L_law_b1191 (b L : Nat) (xs : Nat → Int32) (k28 : Option Nat → Option Nat → Option Nat → Option Nat → Int32 → Tst → Prop) (Q : Int32 → Tst → Prop) (X : String → Nat → Tst → Prop) (l1 : Option Nat) (l2 : Option Nat) (l3 : Option Nat) (l4 : Option Nat) (l5 : Int32) (σ : Tst) : Prop := w_L_law_b2650 b L xs k28 Q X l1 l2 l3 l4 l5 σ
def w_L_law_b1123 (b L : Nat) (xs : Nat → Int32) (k28 : Option Nat → Option Nat → Option Nat → Option Nat → Int32 → Tst → Prop) (Q : Int32 → Tst → Prop) (X : String → Nat → Tst → Prop) (l1 : Option Nat) (l2 : Option Nat) (l3 : Option Nat) (l4 : Option Nat) (l5 : Int32) (σ : Tst) : Prop := w_L_law_b2650 b L xs k28 Q X l1 l2 l3 l4 l5 σ
def w_L_law_b1055 (b L : Nat) (xs : Nat → Int32) (k28 : Option Nat → Option Nat → Option Nat → Option Nat → Int32 → Tst → Prop) (Q : Int32 → Tst → Prop) (X : String → Nat → Tst → Prop) (l1 : Option Nat) (l2 : Option Nat) (l3 : Option Nat) (l4 : Option Nat) (l5 : Int32) (σ : Tst) : Prop := w_L_law_b2650 b L xs k28 Q X l1 l2 l3 l4 l5 σ
def w_L_law_b999 (b L : Nat) (xs : Nat → Int32) (k28 : Option Nat → Option Nat → Option Nat → Option Nat → Int32 → Tst → Prop) (Q : Int32 → Tst → Prop) (X : String → Nat → Tst → Prop) (l1 : Option Nat) (l2 : Option Nat) (l3 : Option Nat) (l4 : Option Nat) (l5 : Int32) (σ : Tst) : Prop := w_L_law_b2650 b L xs k28 Q X l1 l2 l3 l4 l5 σ
def w_L_law_b931 (b L : Nat) (xs : Nat → Int32) (k28 : Option Nat → Option Nat → Option Nat → Option Nat → Int32 → Tst → Prop) (Q : Int32 → Tst → Prop) (X : String → Nat → Tst → Prop) (l1 : Option Nat) (l2 : Option Nat) (l3 : Option Nat) (l4 : Option Nat) (l5 : Int32) (σ : Tst) : Prop := w_L_law_b2650 b L xs k28 Q X l1 l2 l3 l4 l5 σ
def w_L_law_b851 (b L : Nat) (xs : Nat → Int32) (k28 : Option Nat → Option Nat → Option Nat → Option Nat → Int32 → Tst → Prop) (Q : Int32 → Tst → Prop) (X : String → Nat → Tst → Prop) (l1 : Option Nat) (l2 : Option Nat) (l3 : Option Nat) (l4 : Option Nat) (l5 : Int32) (σ : Tst) : Prop := w_L_law_b2650 b L xs k28 Q X l1 l2 l3 l4 l5 σ
def w_L_law_b771 (b L : Nat) (xs : Nat → Int32) (k28 : Option Nat → Option Nat → Option Nat → Option Nat → Int32 → Tst → Prop) (Q : Int32 → Tst → Prop) (X : String → Nat → Tst → Prop) (l1 : Option Nat) (l2 : Option Nat) (l3 : Option Nat) (l4 : Option Nat) (l5 : Int32) (σ : Tst) : Prop := w_L_law_b2650 b L xs k28 Q X l1 l2 l3 l4 l5 σ
def w_L_law_b689 (b L : Nat) (xs : Nat → Int32) (k28 : Option Nat → Option Nat → Option Nat → Option Nat → Int32 → Tst → Prop) (Q : Int32 → Tst → Prop) (X : String → Nat → Tst → Prop) (l1 : Option Nat) (l2 : Option Nat) (l3 : Option Nat) (l4 : Option Nat) (l5 : Int32) (σ : Tst) : Prop := w_L_law_b2650 b L xs k28 Q X l1 l2 l3 l4 l5 σ
def w_L_law_b621 (b L : Nat) (xs : Nat → Int32) (k28 : Option Nat → Option Nat → Option Nat → Option Nat → Int32 → Tst → Prop) (Q : Int32 → Tst → Prop) (X : String → Nat → Tst → Prop) (l1 : Option Nat) (l2 : Option Nat) (l3 : Option Nat) (l4 : Option Nat) (l5 : Int32) (σ : Tst) : Prop := w_L_law_b2650 b L xs k28 Q X l1 l2 l3 l4 l5 σ
def w_L_law_b527 (b L : Nat) (xs : Nat → Int32) (k28 : Option Nat → Option Nat → Option Nat → Option Nat → Int32 → Tst → Prop) (Q : Int32 → Tst → Prop) (X : String → Nat → Tst → Prop) (l1 : Option Nat) (l2 : Option Nat) (l3 : Option Nat) (l4 : Option Nat) (l5 : Int32) (σ : Tst) : Prop := w_L_law_b2650 b L xs k28 Q X l1 l2 l3 l4 l5 σ
def w_L_law_b471 (b L : Nat) (xs : Nat → Int32) (k28 : Option Nat → Option Nat → Option Nat → Option Nat → Int32 → Tst → Prop) (Q : Int32 → Tst → Prop) (X : String → Nat → Tst → Prop) (l1 : Option Nat) (l2 : Option Nat) (l3 : Option Nat) (l4 : Option Nat) (l5 : Int32) (σ : Tst) : Prop := w_L_law_b2650 b L xs k28 Q X l1 l2 l3 l4 l5 σ
def w_L_law_b427 (b L : Nat) (xs : Nat → Int32) (k28 : Option Nat → Option Nat → Option Nat → Option Nat → Int32 → Tst → Prop) (Q : Int32 → Tst → Prop) (X : String → Nat → Tst → Prop) (l1 : Option Nat) (l2 : Option Nat) (l3 : Option Nat) (l4 : Option Nat) (l5 : Int32) (σ : Tst) : Prop := w_L_law_b2650 b L xs k28 Q X l1 l2 l3 l4 l5 σ
def w_L_law_b371 (b L : Nat) (xs : Nat → Int32) (k28 : Option Nat → Option Nat → Option Nat → Option Nat → Int32 → Tst → Prop) (Q : Int32 → Tst → Prop) (X : String → Nat → Tst → Prop) (l1 : Option Nat) (l2 : Option Nat) (l3 : Option Nat) (l4 : Option Nat) (l5 : Int32) (σ : Tst) : Prop := w_L_law_b2650 b L xs k28 Q X l1 l2 l3 l4 l5 σ
def w_L_law_b327 (b L : Nat) (xs : Nat → Int32) (k28 : Option Nat → Option Nat → Option Nat → Option Nat → Int32 → Tst → Prop) (Q : Int32 → Tst → Prop) (X : String → Nat → Tst → Prop) (l1 : Option Nat) (l2 : Option Nat) (l3 : Option Nat) (l4 : Option Nat) (l5 : Int32) (σ : Tst) : Prop := w_L_law_b2650 b L xs k28 Q X l1 l2 l3 l4 l5 σ
def w_L_law_b271 (b L : Nat) (xs : Nat → Int32) (k28 : Option Nat → Option Nat → Option Nat → Option Nat → Int32 → Tst → Prop) (Q : Int32 → Tst → Prop) (X : String → Nat → Tst → Prop) (l1 : Option Nat) (l2 : Option Nat) (l3 : Option Nat) (l4 : Option Nat) (l5 : Int32) (σ : Tst) : Prop := w_L_law_b2650 b L xs k28 Q X l1 l2 l3 l4 l5 σ
def w_L_law_b28 (b L : Nat) (xs : Nat → Int32) (Q : Int32 → Tst → Prop) (X : String → Nat → Tst → Prop) : Nat → Option Nat → Option Nat → Option Nat → Option Nat → Int32 → Tst → Prop
  | 0, _, _, _, _, _, _ => False
  | n + 1, l1, l2, l3, l4, l5, σ => w_if (((nI L) - 5) < l5) ((1 : Int32) = 1) (w_xl L xs l5 fun x1 => w_if ((x1 &&& 63) = 0) (w_xl L xs (l5 + 1) fun x2 => w_X0_type l1 ((x2.toUInt32 % 65536).toInt32) l3 (fun x3 σ => w_xl L xs (l5 + 1) fun x4 => w_rc σ l2 cX4 <| w_X4_type l2 ((x4.toUInt32 % 65536).toInt32) (fun x5 σ => w_rc σ l2 cX4 <| w_X4_thrown l2 (fun x6 σ => w_if (x6 = x3) (w_if (x3 = 0) (w_ll σ l3 0 fun x7 => w_if ((tw_lcmp x7 (x5.toInt64)) = 0) (w_L_law_b271 b L xs (w_L_law_b28 b L xs Q X n) Q X l1 l2 l3 l4 l5 σ) ((0 : Int32) = 1)) (w_L_law_b271 b L xs (w_L_law_b28 b L xs Q X n) Q X l1 l2 l3 l4 l5 σ)) ((0 : Int32) = 1)) (fun _ _ _ => False) σ) (fun _ _ _ => False) σ) (fun _ _ _ => False) σ) (w_if ((x1 &&& 63) = 1) (w_xl L xs (l5 + 1) fun x9 => w_X0_read l1 x9 l3 (fun x10 σ => w_xl L xs (l5 + 1) fun x11 => w_rc σ l2 cX4 <| w_X4_read l2 x11 (fun x12 σ => w_rc σ l2 cX4 <| w_X4_thrown l2 (fun x13 σ => w_if (x13 = x10) (w_if (x10 = 0) (w_ll σ l3 0 fun x14 => w_if ((tw_lcmp x14 (x12.toInt64)) = 0) (w_L_law_b327 b L xs (w_L_law_b28 b L xs Q X n) Q X l1 l2 l3 l4 l5 σ) ((0 : Int32) = 1)) (w_L_law_b327 b L xs (w_L_law_b28 b L xs Q X n) Q X l1 l2 l3 l4 l5 σ)) ((0 : Int32) = 1)) (fun _ _ _ => False) σ) (fun _ _ _ => False) σ) (fun _ _ _ => False) σ) (w_if ((x1 &&& 63) = 2) (w_X0_errorPosition l1 l3 (fun x16 σ => w_rc σ l2 cX4 <| w_X4_errorPosition l2 (fun x17 σ => w_rc σ l2 cX4 <| w_X4_thrown l2 (fun x18 σ => w_if (x18 = x16) (w_if (x16 = 0) (w_ll σ l3 0 fun x19 => w_if ((tw_lcmp x19 (x17.toInt64)) = 0) (w_L_law_b371 b L xs (w_L_law_b28 b L xs Q X n) Q X l1 l2 l3 l4 l5 σ) ((0 : Int32) = 1)) (w_L_law_b371 b L xs (w_L_law_b28 b L xs Q X n) Q X l1 l2 l3 l4 l5 σ)) ((0 : Int32) = 1)) (fun _ _ _ => False) σ) (fun _ _ _ => False) σ) (fun _ _ _ => False) σ) (w_if ((x1 &&& 63) = 3) (w_xl L xs (l5 + 1) fun x21 => w_X0_writeTree l1 x21 l3 (fun x22 σ => w_xl L xs (l5 + 1) fun x23 => w_rc σ l2 cX4 <| w_X4_writeTree l2 x23 (fun x24 σ => w_rc σ l2 cX4 <| w_X4_thrown l2 (fun x25 σ => w_if (x25 = x22) (w_if (x22 = 0) (w_ll σ l3 0 fun x26 => w_if ((tw_lcmp x26 (x24.toInt64)) = 0) (w_L_law_b427 b L xs (w_L_law_b28 b L xs Q X n) Q X l1 l2 l3 l4 l5 σ) ((0 : Int32) = 1)) (w_L_law_b427 b L xs (w_L_law_b28 b L xs Q X n) Q X l1 l2 l3 l4 l5 σ)) ((0 : Int32) = 1)) (fun _ _ _ => False) σ) (fun _ _ _ => False) σ) (fun _ _ _ => False) σ) (w_if ((x1 &&& 63) = 4) (w_X0_writeScript l1 l3 (fun x28 σ => w_rc σ l2 cX4 <| w_X4_writeScript l2 (fun x29 σ => w_rc σ l2 cX4 <| w_X4_thrown l2 (fun x30 σ => w_if (x30 = x28) (w_if (x28 = 0) (w_ll σ l3 0 fun x31 => w_if ((tw_lcmp x31 (x29.toInt64)) = 0) (w_L_law_b471 b L xs (w_L_law_b28 b L xs Q X n) Q X l1 l2 l3 l4 l5 σ) ((0 : Int32) = 1)) (w_L_law_b471 b L xs (w_L_law_b28 b L xs Q X n) Q X l1 l2 l3 l4 l5 σ)) ((0 : Int32) = 1)) (fun _ _ _ => False) σ) (fun _ _ _ => False) σ) (fun _ _ _ => False) σ) (w_if ((x1 &&& 63) = 5) (w_xl L xs (l5 + 1) fun x33 => w_X0_charAt l1 x33 l3 (fun x34 σ => w_xl L xs (l5 + 1) fun x35 => w_rc σ l2 cX4 <| w_X4_charAt l2 x35 (fun x36 σ => w_rc σ l2 cX4 <| w_X4_thrown l2 (fun x37 σ => w_if (x37 = x34) (w_if (x34 = 0) (w_ll σ l3 0 fun x38 => w_if ((tw_lcmp x38 (x36.toInt64)) = 0) (w_L_law_b527 b L xs (w_L_law_b28 b L xs Q X n) Q X l1 l2 l3 l4 l5 σ) ((0 : Int32) = 1)) (w_L_law_b527 b L xs (w_L_law_b28 b L xs Q X n) Q X l1 l2 l3 l4 l5 σ)) ((0 : Int32) = 1)) (fun _ _ _ => False) σ) (fun _ _ _ => False) σ) (fun _ _ _ => False) σ) (w_if ((x1 &&& 63) = 6) (w_xl L xs (l5 + 1) fun x40 => w_xl L xs (l5 + 2) fun x41 => w_xl L xs (l5 + 3) fun x42 => w_xl L xs (l5 + 4) fun x43 => w_X0_addNode l1 x40 x41 x42 ((x43.toUInt32 % 65536).toInt32) l3 (fun x44 σ => w_xl L xs (l5 + 1) fun x45 => w_xl L xs (l5 + 2) fun x46 => w_xl L xs (l5 + 3) fun x47 => w_xl L xs (l5 + 4) fun x48 => w_rc σ l2 cX4 <| w_X4_addNode l2 x45 x46 x47 ((x48.toUInt32 % 65536).toInt32) (fun x49 σ => w_rc σ l2 cX4 <| w_X4_thrown l2 (fun x50 σ => w_if (x50 = x44) (w_if (x44 = 0) (w_ll σ l3 0 fun x51 => w_if ((tw_lcmp x51 (x49.toInt64)) = 0) (w_L_law_b621 b L xs (w_L_law_b28 b L xs Q X n) Q X l1 l2 l3 l4 l5 σ) ((0 : Int32) = 1)) (w_L_law_b621 b L xs (w_L_law_b28 b L xs Q X n) Q X l1 l2 l3 l4 l5 σ)) ((0 : Int32) = 1)) (fun _ _ _ => False) σ) (fun _ _ _ => False) σ) (fun _ _ _ => False) σ) (w_if ((x1 &&& 63) = 7) (w_xl L xs (l5 + 1) fun x53 => w_xl L xs (l5 + 2) fun x54 => w_X0_removeNode l1 x53 x54 l3 (fun x55 σ => w_xl L xs (l5 + 1) fun x56 => w_xl L xs (l5 + 2) fun x57 => w_rc σ l2 cX4 <| w_X4_removeNode l2 x56 x57 (fun x58 σ => w_rc σ l2 cX4 <| w_X4_thrown l2 (fun x59 σ => w_if (x59 = x55) (w_if (x55 = 0) (w_ll σ l3 0 fun x60 => w_if ((tw_lcmp x60 (x58.toInt64)) = 0) (w_L_law_b689 b L xs (w_L_law_b28 b L xs Q X n) Q X l1 l2 l3 l4 l5 σ) ((0 : Int32) = 1)) (w_L_law_b689 b L xs (w_L_law_b28 b L xs Q X n) Q X l1 l2 l3 l4 l5 σ)) ((0 : Int32) = 1)) (fun _ _ _ => False) σ) (fun _ _ _ => False) σ) (fun _ _ _ => False) σ) (w_if ((x1 &&& 63) = 8) (w_xl L xs (l5 + 1) fun x62 => w_xl L xs (l5 + 2) fun x63 => w_xl L xs (l5 + 3) fun x64 => w_X0_setLabel l1 x62 x63 ((x64.toUInt32 % 65536).toInt32) l3 (fun x65 σ => w_xl L xs (l5 + 1) fun x66 => w_xl L xs (l5 + 2) fun x67 => w_xl L xs (l5 + 3) fun x68 => w_rc σ l2 cX4 <| w_X4_setLabel l2 x66 x67 ((x68.toUInt32 % 65536).toInt32) (fun x69 σ => w_rc σ l2 cX4 <| w_X4_thrown l2 (fun x70 σ => w_if (x70 = x65) (w_if (x65 = 0) (w_ll σ l3 0 fun x71 => w_if ((tw_lcmp x71 (x69.toInt64)) = 0) (w_L_law_b771 b L xs (w_L_law_b28 b L xs Q X n) Q X l1 l2 l3 l4 l5 σ) ((0 : Int32) = 1)) (w_L_law_b771 b L xs (w_L_law_b28 b L xs Q X n) Q X l1 l2 l3 l4 l5 σ)) ((0 : Int32) = 1)) (fun _ _ _ => False) σ) (fun _ _ _ => False) σ) (fun _ _ _ => False) σ) (w_if ((x1 &&& 63) = 9) (w_xl L xs (l5 + 1) fun x73 => w_xl L xs (l5 + 2) fun x74 => w_xl L xs (l5 + 3) fun x75 => w_X0_setKey l1 x73 x74 x75 l3 (fun x76 σ => w_xl L xs (l5 + 1) fun x77 => w_xl L xs (l5 + 2) fun x78 => w_xl L xs (l5 + 3) fun x79 => w_rc σ l2 cX4 <| w_X4_setKey l2 x77 x78 x79 (fun x80 σ => w_rc σ l2 cX4 <| w_X4_thrown l2 (fun x81 σ => w_if (x81 = x76) (w_if (x76 = 0) (w_ll σ l3 0 fun x82 => w_if ((tw_lcmp x82 (x80.toInt64)) = 0) (w_L_law_b851 b L xs (w_L_law_b28 b L xs Q X n) Q X l1 l2 l3 l4 l5 σ) ((0 : Int32) = 1)) (w_L_law_b851 b L xs (w_L_law_b28 b L xs Q X n) Q X l1 l2 l3 l4 l5 σ)) ((0 : Int32) = 1)) (fun _ _ _ => False) σ) (fun _ _ _ => False) σ) (fun _ _ _ => False) σ) (w_if ((x1 &&& 63) = 10) (w_xl L xs (l5 + 1) fun x84 => w_xl L xs (l5 + 2) fun x85 => w_xl L xs (l5 + 3) fun x86 => w_X0_setValue l1 x84 x85 x86 l3 (fun x87 σ => w_xl L xs (l5 + 1) fun x88 => w_xl L xs (l5 + 2) fun x89 => w_xl L xs (l5 + 3) fun x90 => w_rc σ l2 cX4 <| w_X4_setValue l2 x88 x89 x90 (fun x91 σ => w_rc σ l2 cX4 <| w_X4_thrown l2 (fun x92 σ => w_if (x92 = x87) (w_if (x87 = 0) (w_ll σ l3 0 fun x93 => w_if ((tw_lcmp x93 (x91.toInt64)) = 0) (w_L_law_b931 b L xs (w_L_law_b28 b L xs Q X n) Q X l1 l2 l3 l4 l5 σ) ((0 : Int32) = 1)) (w_L_law_b931 b L xs (w_L_law_b28 b L xs Q X n) Q X l1 l2 l3 l4 l5 σ)) ((0 : Int32) = 1)) (fun _ _ _ => False) σ) (fun _ _ _ => False) σ) (fun _ _ _ => False) σ) (w_if ((x1 &&& 63) = 11) (w_xl L xs (l5 + 1) fun x95 => w_xl L xs (l5 + 2) fun x96 => w_X0_copyTree l1 x95 x96 l3 (fun x97 σ => w_xl L xs (l5 + 1) fun x98 => w_xl L xs (l5 + 2) fun x99 => w_rc σ l2 cX4 <| w_X4_copyTree l2 x98 x99 (fun x100 σ => w_rc σ l2 cX4 <| w_X4_thrown l2 (fun x101 σ => w_if (x101 = x97) (w_if (x97 = 0) (w_ll σ l3 0 fun x102 => w_if ((tw_lcmp x102 (x100.toInt64)) = 0) (w_L_law_b999 b L xs (w_L_law_b28 b L xs Q X n) Q X l1 l2 l3 l4 l5 σ) ((0 : Int32) = 1)) (w_L_law_b999 b L xs (w_L_law_b28 b L xs Q X n) Q X l1 l2 l3 l4 l5 σ)) ((0 : Int32) = 1)) (fun _ _ _ => False) σ) (fun _ _ _ => False) σ) (fun _ _ _ => False) σ) (w_if ((x1 &&& 63) = 12) (w_xl L xs (l5 + 1) fun x104 => w_X0_size l1 x104 l3 (fun x105 σ => w_xl L xs (l5 + 1) fun x106 => w_rc σ l2 cX4 <| w_X4_size l2 x106 (fun x107 σ => w_rc σ l2 cX4 <| w_X4_thrown l2 (fun x108 σ => w_if (x108 = x105) (w_if (x105 = 0) (w_ll σ l3 0 fun x109 => w_if ((tw_lcmp x109 (x107.toInt64)) = 0) (w_L_law_b1055 b L xs (w_L_law_b28 b L xs Q X n) Q X l1 l2 l3 l4 l5 σ) ((0 : Int32) = 1)) (w_L_law_b1055 b L xs (w_L_law_b28 b L xs Q X n) Q X l1 l2 l3 l4 l5 σ)) ((0 : Int32) = 1)) (fun _ _ _ => False) σ) (fun _ _ _ => False) σ) (fun _ _ _ => False) σ) (w_if ((x1 &&& 63) = 13) (w_xl L xs (l5 + 1) fun x111 => w_xl L xs (l5 + 2) fun x112 => w_X0_label l1 x111 x112 l3 (fun x113 σ => w_xl L xs (l5 + 1) fun x114 => w_xl L xs (l5 + 2) fun x115 => w_rc σ l2 cX4 <| w_X4_label l2 x114 x115 (fun x116 σ => w_rc σ l2 cX4 <| w_X4_thrown l2 (fun x117 σ => w_if (x117 = x113) (w_if (x113 = 0) (w_ll σ l3 0 fun x118 => w_if ((tw_lcmp x118 (x116.toInt64)) = 0) (w_L_law_b1123 b L xs (w_L_law_b28 b L xs Q X n) Q X l1 l2 l3 l4 l5 σ) ((0 : Int32) = 1)) (w_L_law_b1123 b L xs (w_L_law_b28 b L xs Q X n) Q X l1 l2 l3 l4 l5 σ)) ((0 : Int32) = 1)) (fun _ _ _ => False) σ) (fun _ _ _ => False) σ) (fun _ _ _ => False) σ) (w_if ((x1 &&& 63) = 14) (w_xl L xs (l5 + 1) fun x120 => w_xl L xs (l5 + 2) fun x121 => w_X0_key l1 x120 x121 l3 (fun x122 σ => w_xl L xs (l5 + 1) fun x123 => w_xl L xs (l5 + 2) fun x124 => w_rc σ l2 cX4 <| w_X4_key l2 x123 x124 (fun x125 σ => w_rc σ l2 cX4 <| w_X4_thrown l2 (fun x126 σ => w_if (x126 = x122) (w_if (x122 = 0) (w_ll σ l3 0 fun x127 => w_if ((tw_lcmp x127 (x125.toInt64)) = 0) (w_L_law_b1191 b L xs (w_L_law_b28 b L xs Q X n) Q X l1 l2 l3 l4 l5 σ) ((0 : Int32) = 1)) (w_L_law_b1191 b L xs (w_L_law_b28 b L xs Q X n) Q X l1 l2 l3 l4 l5 σ)) ((0 : Int32) = 1)) (fun _ _ _ => False) σ) (fun _ _ _ => False) σ) (fun _ _ _ => False) σ) (w_if ((x1 &&& 63) = 15) (w_xl L xs (l5 + 1) fun x129 => w_xl L xs (l5 + 2) fun x130 => w_X0_value l1 x129 x130 l3 (fun x131 σ => w_xl L xs (l5 + 1) fun x132 => w_xl L xs (l5 + 2) fun x133 => w_rc σ l2 cX4 <| w_X4_value l2 x132 x133 (fun x134 σ => w_rc σ l2 cX4 <| w_X4_thrown l2 (fun x135 σ => w_if (x135 = x131) (w_if (x131 = 0) (w_ll σ l3 0 fun x136 => w_if ((tw_lcmp x136 (x134.toInt64)) = 0) (w_L_law_b1259 b L xs (w_L_law_b28 b L xs Q X n) Q X l1 l2 l3 l4 l5 σ) ((0 : Int32) = 1)) (w_L_law_b1259 b L xs (w_L_law_b28 b L xs Q X n) Q X l1 l2 l3 l4 l5 σ)) ((0 : Int32) = 1)) (fun _ _ _ => False) σ) (fun _ _ _ => False) σ) (fun _ _ _ => False) σ) (w_if ((x1 &&& 63) = 16) (w_xl L xs (l5 + 1) fun x138 => w_xl L xs (l5 + 2) fun x139 => w_X0_children l1 x138 x139 l3 (fun x140 σ => w_xl L xs (l5 + 1) fun x141 => w_xl L xs (l5 + 2) fun x142 => w_rc σ l2 cX4 <| w_X4_children l2 x141 x142 (fun x143 σ => w_rc σ l2 cX4 <| w_X4_thrown l2 (fun x144 σ => w_if (x144 = x140) (w_if (x140 = 0) (w_ll σ l3 0 fun x145 => w_if ((tw_lcmp x145 (x143.toInt64)) = 0) (w_L_law_b1327 b L xs (w_L_law_b28 b L xs Q X n) Q X l1 l2 l3 l4 l5 σ) ((0 : Int32) = 1)) (w_L_law_b1327 b L xs (w_L_law_b28 b L xs Q X n) Q X l1 l2 l3 l4 l5 σ)) ((0 : Int32) = 1)) (fun _ _ _ => False) σ) (fun _ _ _ => False) σ) (fun _ _ _ => False) σ) (w_if ((x1 &&& 63) = 17) (w_xl L xs (l5 + 1) fun x147 => w_xl L xs (l5 + 2) fun x148 => w_X0_parent l1 x147 x148 l3 (fun x149 σ => w_xl L xs (l5 + 1) fun x150 => w_xl L xs (l5 + 2) fun x151 => w_rc σ l2 cX4 <| w_X4_parent l2 x150 x151 (fun x152 σ => w_rc σ l2 cX4 <| w_X4_thrown l2 (fun x153 σ => w_if (x153 = x149) (w_if (x149 = 0) (w_ll σ l3 0 fun x154 => w_if ((tw_lcmp x154 (x152.toInt64)) = 0) (w_L_law_b1395 b L xs (w_L_law_b28 b L xs Q X n) Q X l1 l2 l3 l4 l5 σ) ((0 : Int32) = 1)) (w_L_law_b1395 b L xs (w_L_law_b28 b L xs Q X n) Q X l1 l2 l3 l4 l5 σ)) ((0 : Int32) = 1)) (fun _ _ _ => False) σ) (fun _ _ _ => False) σ) (fun _ _ _ => False) σ) (w_if ((x1 &&& 63) = 18) (w_xl L xs (l5 + 1) fun x156 => w_xl L xs (l5 + 2) fun x157 => w_X0_subtreeSize l1 x156 x157 l3 (fun x158 σ => w_xl L xs (l5 + 1) fun x159 => w_xl L xs (l5 + 2) fun x160 => w_rc σ l2 cX4 <| w_X4_subtreeSize l2 x159 x160 (fun x161 σ => w_rc σ l2 cX4 <| w_X4_thrown l2 (fun x162 σ => w_if (x162 = x158) (w_if (x158 = 0) (w_ll σ l3 0 fun x163 => w_if ((tw_lcmp x163 (x161.toInt64)) = 0) (w_L_law_b1463 b L xs (w_L_law_b28 b L xs Q X n) Q X l1 l2 l3 l4 l5 σ) ((0 : Int32) = 1)) (w_L_law_b1463 b L xs (w_L_law_b28 b L xs Q X n) Q X l1 l2 l3 l4 l5 σ)) ((0 : Int32) = 1)) (fun _ _ _ => False) σ) (fun _ _ _ => False) σ) (fun _ _ _ => False) σ) (w_if ((x1 &&& 63) = 19) (w_xl L xs (l5 + 1) fun x165 => w_xl L xs (l5 + 2) fun x166 => w_X0_subtreeHash l1 x165 x166 l3 (fun x167 σ => w_xl L xs (l5 + 1) fun x168 => w_xl L xs (l5 + 2) fun x169 => w_rc σ l2 cX4 <| w_X4_subtreeHash l2 x168 x169 (fun x170 σ => w_rc σ l2 cX4 <| w_X4_thrown l2 (fun x171 σ => w_if (x171 = x167) (w_if (x167 = 0) (w_ll σ l3 0 fun x172 => w_if ((tw_lcmp x172 (x170.toInt64)) = 0) (w_L_law_b1531 b L xs (w_L_law_b28 b L xs Q X n) Q X l1 l2 l3 l4 l5 σ) ((0 : Int32) = 1)) (w_L_law_b1531 b L xs (w_L_law_b28 b L xs Q X n) Q X l1 l2 l3 l4 l5 σ)) ((0 : Int32) = 1)) (fun _ _ _ => False) σ) (fun _ _ _ => False) σ) (fun _ _ _ => False) σ) (w_if ((x1 &&& 63) = 20) (w_xl L xs (l5 + 1) fun x174 => w_xl L xs (l5 + 2) fun x175 => w_xl L xs (l5 + 3) fun x176 => w_xl L xs (l5 + 4) fun x177 => w_X0_areEqual l1 x174 x175 x176 x177 l3 (fun x178 σ => w_xl L xs (l5 + 1) fun x179 => w_xl L xs (l5 + 2) fun x180 => w_xl L xs (l5 + 3) fun x181 => w_xl L xs (l5 + 4) fun x182 => w_rc σ l2 cX4 <| w_X4_areEqual l2 x179 x180 x181 x182 (fun x183 σ => w_rc σ l2 cX4 <| w_X4_thrown l2 (fun x184 σ => w_if (x184 = x178) (w_if (x178 = 0) (w_ll σ l3 0 fun x185 => w_if (x183 = 0) (w_L_law_b1624 b L xs (w_L_law_b28 b L xs Q X n) Q X l1 l2 l3 l4 l5 x185 0 σ) (w_L_law_b1624 b L xs (w_L_law_b28 b L xs Q X n) Q X l1 l2 l3 l4 l5 x185 1 σ)) (w_L_law_b1630 b L xs (w_L_law_b28 b L xs Q X n) Q X l1 l2 l3 l4 l5 σ)) ((0 : Int32) = 1)) (fun _ _ _ => False) σ) (fun _ _ _ => False) σ) (fun _ _ _ => False) σ) (w_if ((x1 &&& 63) = 21) (w_xl L xs (l5 + 1) fun x186 => w_xl L xs (l5 + 2) fun x187 => w_xl L xs (l5 + 3) fun x188 => w_X0_twin l1 x186 x187 x188 l3 (fun x189 σ => w_xl L xs (l5 + 1) fun x190 => w_xl L xs (l5 + 2) fun x191 => w_xl L xs (l5 + 3) fun x192 => w_rc σ l2 cX4 <| w_X4_twin l2 x190 x191 x192 (fun x193 σ => w_rc σ l2 cX4 <| w_X4_thrown l2 (fun x194 σ => w_if (x194 = x189) (w_if (x189 = 0) (w_ll σ l3 0 fun x195 => w_if ((tw_lcmp x195 (x193.toInt64)) = 0) (w_L_law_b1710 b L xs (w_L_law_b28 b L xs Q X n) Q X l1 l2 l3 l4 l5 σ) ((0 : Int32) = 1)) (w_L_law_b1710 b L xs (w_L_law_b28 b L xs Q X n) Q X l1 l2 l3 l4 l5 σ)) ((0 : Int32) = 1)) (fun _ _ _ => False) σ) (fun _ _ _ => False) σ) (fun _ _ _ => False) σ) (w_if ((x1 &&& 63) = 22) (w_xl L xs (l5 + 1) fun x197 => w_xl L xs (l5 + 2) fun x198 => w_xl L xs (l5 + 3) fun x199 => w_X0_shapeTwin l1 x197 x198 x199 l3 (fun x200 σ => w_xl L xs (l5 + 1) fun x201 => w_xl L xs (l5 + 2) fun x202 => w_xl L xs (l5 + 3) fun x203 => w_rc σ l2 cX4 <| w_X4_shapeTwin l2 x201 x202 x203 (fun x204 σ => w_rc σ l2 cX4 <| w_X4_thrown l2 (fun x205 σ => w_if (x205 = x200) (w_if (x200 = 0) (w_ll σ l3 0 fun x206 => w_if ((tw_lcmp x206 (x204.toInt64)) = 0) (w_L_law_b1790 b L xs (w_L_law_b28 b L xs Q X n) Q X l1 l2 l3 l4 l5 σ) ((0 : Int32) = 1)) (w_L_law_b1790 b L xs (w_L_law_b28 b L xs Q X n) Q X l1 l2 l3 l4 l5 σ)) ((0 : Int32) = 1)) (fun _ _ _ => False) σ) (fun _ _ _ => False) σ) (fun _ _ _ => False) σ) (w_if ((x1 &&& 63) = 23) (w_xl L xs (l5 + 1) fun x208 => w_xl L xs (l5 + 2) fun x209 => w_X0_distance l1 x208 x209 l3 (fun x210 σ => w_xl L xs (l5 + 1) fun x211 => w_xl L xs (l5 + 2) fun x212 => w_rc σ l2 cX4 <| w_X4_distance l2 x211 x212 (fun x213 σ => w_rc σ l2 cX4 <| w_X4_thrown l2 (fun x214 σ => w_if (x214 = x210) (w_if (x210 = 0) (w_ll σ l3 0 fun x215 => w_if ((tw_lcmp x215 (x213.toInt64)) = 0) (w_L_law_b1858 b L xs (w_L_law_b28 b L xs Q X n) Q X l1 l2 l3 l4 l5 σ) ((0 : Int32) = 1)) (w_L_law_b1858 b L xs (w_L_law_b28 b L xs Q X n) Q X l1 l2 l3 l4 l5 σ)) ((0 : Int32) = 1)) (fun _ _ _ => False) σ) (fun _ _ _ => False) σ) (fun _ _ _ => False) σ) (w_if ((x1 &&& 63) = 24) (w_xl L xs (l5 + 1) fun x217 => w_xl L xs (l5 + 2) fun x218 => w_X0_distanceByMatchings l1 x217 x218 l3 (fun x219 σ => w_xl L xs (l5 + 1) fun x220 => w_xl L xs (l5 + 2) fun x221 => w_rc σ l2 cX4 <| w_X4_distanceByMatchings l2 x220 x221 (fun x222 σ => w_rc σ l2 cX4 <| w_X4_thrown l2 (fun x223 σ => w_if (x223 = x219) (w_if (x219 = 0) (w_ll σ l3 0 fun x224 => w_if ((tw_lcmp x224 (x222.toInt64)) = 0) (w_L_law_b1926 b L xs (w_L_law_b28 b L xs Q X n) Q X l1 l2 l3 l4 l5 σ) ((0 : Int32) = 1)) (w_L_law_b1926 b L xs (w_L_law_b28 b L xs Q X n) Q X l1 l2 l3 l4 l5 σ)) ((0 : Int32) = 1)) (fun _ _ _ => False) σ) (fun _ _ _ => False) σ) (fun _ _ _ => False) σ) (w_if ((x1 &&& 63) = 25) (w_xl L xs (l5 + 1) fun x226 => w_xl L xs (l5 + 2) fun x227 => w_X0_similarity l1 x226 x227 l4 (fun x228 σ => w_xl L xs (l5 + 1) fun x229 => w_xl L xs (l5 + 2) fun x230 => w_rc σ l2 cX4 <| w_X4_similarity l2 x229 x230 (fun x231 σ => w_rc σ l2 cX4 <| w_X4_thrown l2 (fun x232 σ => w_if (x232 = x228) (w_if (x228 = 0) (w_ld σ l4 0 fun x233 => w_if ((Op.cmpValue (FP.dcmp x233 x231) .l) = 0) (w_L_law_b2015 b L xs (w_L_law_b28 b L xs Q X n) Q X l1 l2 l3 l4 l5 σ) (w_ld σ l4 0 fun x234 => w_ld σ l4 0 fun x235 => w_if ((Op.cmpValue (FP.dcmp x234 x235) .l) = 0) (w_L_law_b2013 b L xs Q X σ) (w_if ((Op.cmpValue (FP.dcmp x231 x231) .l) = 0) (w_L_law_b2013 b L xs Q X σ) (w_L_law_b2015 b L xs (w_L_law_b28 b L xs Q X n) Q X l1 l2 l3 l4 l5 σ)))) (w_L_law_b2015 b L xs (w_L_law_b28 b L xs Q X n) Q X l1 l2 l3 l4 l5 σ)) ((0 : Int32) = 1)) (fun _ _ _ => False) σ) (fun _ _ _ => False) σ) (fun _ _ _ => False) σ) (w_if ((x1 &&& 63) = 26) (w_xl L xs (l5 + 1) fun x236 => w_xl L xs (l5 + 2) fun x237 => w_X0_diff l1 x236 x237 l3 (fun x238 σ => w_xl L xs (l5 + 1) fun x239 => w_xl L xs (l5 + 2) fun x240 => w_rc σ l2 cX4 <| w_X4_diff l2 x239 x240 (fun x241 σ => w_rc σ l2 cX4 <| w_X4_thrown l2 (fun x242 σ => w_if (x242 = x238) (w_if (x238 = 0) (w_ll σ l3 0 fun x243 => w_if ((tw_lcmp x243 (x241.toInt64)) = 0) (w_L_law_b2083 b L xs (w_L_law_b28 b L xs Q X n) Q X l1 l2 l3 l4 l5 σ) ((0 : Int32) = 1)) (w_L_law_b2083 b L xs (w_L_law_b28 b L xs Q X n) Q X l1 l2 l3 l4 l5 σ)) ((0 : Int32) = 1)) (fun _ _ _ => False) σ) (fun _ _ _ => False) σ) (fun _ _ _ => False) σ) (w_if ((x1 &&& 63) = 27) (w_X0_operations l1 l3 (fun x245 σ => w_rc σ l2 cX4 <| w_X4_operations l2 (fun x246 σ => w_rc σ l2 cX4 <| w_X4_thrown l2 (fun x247 σ => w_if (x247 = x245) (w_if (x245 = 0) (w_ll σ l3 0 fun x248 => w_if ((tw_lcmp x248 (x246.toInt64)) = 0) (w_L_law_b2127 b L xs (w_L_law_b28 b L xs Q X n) Q X l1 l2 l3 l4 l5 σ) ((0 : Int32) = 1)) (w_L_law_b2127 b L xs (w_L_law_b28 b L xs Q X n) Q X l1 l2 l3 l4 l5 σ)) ((0 : Int32) = 1)) (fun _ _ _ => False) σ) (fun _ _ _ => False) σ) (fun _ _ _ => False) σ) (w_if ((x1 &&& 63) = 28) (w_xl L xs (l5 + 1) fun x250 => w_X0_opKind l1 x250 l3 (fun x251 σ => w_xl L xs (l5 + 1) fun x252 => w_rc σ l2 cX4 <| w_X4_opKind l2 x252 (fun x253 σ => w_rc σ l2 cX4 <| w_X4_thrown l2 (fun x254 σ => w_if (x254 = x251) (w_if (x251 = 0) (w_ll σ l3 0 fun x255 => w_if ((tw_lcmp x255 (x253.toInt64)) = 0) (w_L_law_b2183 b L xs (w_L_law_b28 b L xs Q X n) Q X l1 l2 l3 l4 l5 σ) ((0 : Int32) = 1)) (w_L_law_b2183 b L xs (w_L_law_b28 b L xs Q X n) Q X l1 l2 l3 l4 l5 σ)) ((0 : Int32) = 1)) (fun _ _ _ => False) σ) (fun _ _ _ => False) σ) (fun _ _ _ => False) σ) (w_if ((x1 &&& 63) = 29) (w_xl L xs (l5 + 1) fun x257 => w_X0_opNode l1 x257 l3 (fun x258 σ => w_xl L xs (l5 + 1) fun x259 => w_rc σ l2 cX4 <| w_X4_opNode l2 x259 (fun x260 σ => w_rc σ l2 cX4 <| w_X4_thrown l2 (fun x261 σ => w_if (x261 = x258) (w_if (x258 = 0) (w_ll σ l3 0 fun x262 => w_if ((tw_lcmp x262 (x260.toInt64)) = 0) (w_L_law_b2239 b L xs (w_L_law_b28 b L xs Q X n) Q X l1 l2 l3 l4 l5 σ) ((0 : Int32) = 1)) (w_L_law_b2239 b L xs (w_L_law_b28 b L xs Q X n) Q X l1 l2 l3 l4 l5 σ)) ((0 : Int32) = 1)) (fun _ _ _ => False) σ) (fun _ _ _ => False) σ) (fun _ _ _ => False) σ) (w_if ((x1 &&& 63) = 30) (w_xl L xs (l5 + 1) fun x264 => w_X0_opTarget l1 x264 l3 (fun x265 σ => w_xl L xs (l5 + 1) fun x266 => w_rc σ l2 cX4 <| w_X4_opTarget l2 x266 (fun x267 σ => w_rc σ l2 cX4 <| w_X4_thrown l2 (fun x268 σ => w_if (x268 = x265) (w_if (x265 = 0) (w_ll σ l3 0 fun x269 => w_if ((tw_lcmp x269 (x267.toInt64)) = 0) (w_L_law_b2295 b L xs (w_L_law_b28 b L xs Q X n) Q X l1 l2 l3 l4 l5 σ) ((0 : Int32) = 1)) (w_L_law_b2295 b L xs (w_L_law_b28 b L xs Q X n) Q X l1 l2 l3 l4 l5 σ)) ((0 : Int32) = 1)) (fun _ _ _ => False) σ) (fun _ _ _ => False) σ) (fun _ _ _ => False) σ) (w_if ((x1 &&& 63) = 31) (w_xl L xs (l5 + 1) fun x271 => w_X0_partner l1 x271 l3 (fun x272 σ => w_xl L xs (l5 + 1) fun x273 => w_rc σ l2 cX4 <| w_X4_partner l2 x273 (fun x274 σ => w_rc σ l2 cX4 <| w_X4_thrown l2 (fun x275 σ => w_if (x275 = x272) (w_if (x272 = 0) (w_ll σ l3 0 fun x276 => w_if ((tw_lcmp x276 (x274.toInt64)) = 0) (w_L_law_b2351 b L xs (w_L_law_b28 b L xs Q X n) Q X l1 l2 l3 l4 l5 σ) ((0 : Int32) = 1)) (w_L_law_b2351 b L xs (w_L_law_b28 b L xs Q X n) Q X l1 l2 l3 l4 l5 σ)) ((0 : Int32) = 1)) (fun _ _ _ => False) σ) (fun _ _ _ => False) σ) (fun _ _ _ => False) σ) (w_if ((x1 &&& 63) = 32) (w_X0_moves l1 l3 (fun x278 σ => w_rc σ l2 cX4 <| w_X4_moves l2 (fun x279 σ => w_rc σ l2 cX4 <| w_X4_thrown l2 (fun x280 σ => w_if (x280 = x278) (w_if (x278 = 0) (w_ll σ l3 0 fun x281 => w_if ((tw_lcmp x281 (x279.toInt64)) = 0) (w_L_law_b2395 b L xs (w_L_law_b28 b L xs Q X n) Q X l1 l2 l3 l4 l5 σ) ((0 : Int32) = 1)) (w_L_law_b2395 b L xs (w_L_law_b28 b L xs Q X n) Q X l1 l2 l3 l4 l5 σ)) ((0 : Int32) = 1)) (fun _ _ _ => False) σ) (fun _ _ _ => False) σ) (fun _ _ _ => False) σ) (w_if ((x1 &&& 63) = 33) (w_X0_scriptCost l1 l3 (fun x283 σ => w_rc σ l2 cX4 <| w_X4_scriptCost l2 (fun x284 σ => w_rc σ l2 cX4 <| w_X4_thrown l2 (fun x285 σ => w_if (x285 = x283) (w_if (x283 = 0) (w_ll σ l3 0 fun x286 => w_if ((tw_lcmp x286 (x284.toInt64)) = 0) (w_L_law_b2439 b L xs (w_L_law_b28 b L xs Q X n) Q X l1 l2 l3 l4 l5 σ) ((0 : Int32) = 1)) (w_L_law_b2439 b L xs (w_L_law_b28 b L xs Q X n) Q X l1 l2 l3 l4 l5 σ)) ((0 : Int32) = 1)) (fun _ _ _ => False) σ) (fun _ _ _ => False) σ) (fun _ _ _ => False) σ) (w_if ((x1 &&& 63) = 34) (w_X0_givesTarget l1 l3 (fun x288 σ => w_rc σ l2 cX4 <| w_X4_givesTarget l2 (fun x289 σ => w_rc σ l2 cX4 <| w_X4_thrown l2 (fun x290 σ => w_if (x290 = x288) (w_if (x288 = 0) (w_ll σ l3 0 fun x291 => w_if (x289 = 0) (w_L_law_b2484 b L xs (w_L_law_b28 b L xs Q X n) Q X l1 l2 l3 l4 l5 x291 0 σ) (w_L_law_b2484 b L xs (w_L_law_b28 b L xs Q X n) Q X l1 l2 l3 l4 l5 x291 1 σ)) (w_L_law_b2490 b L xs (w_L_law_b28 b L xs Q X n) Q X l1 l2 l3 l4 l5 σ)) ((0 : Int32) = 1)) (fun _ _ _ => False) σ) (fun _ _ _ => False) σ) (fun _ _ _ => False) σ) (w_if ((x1 &&& 63) = 35) (w_xl L xs (l5 + 1) fun x292 => w_X0_patch l1 x292 l3 (fun x293 σ => w_xl L xs (l5 + 1) fun x294 => w_rc σ l2 cX4 <| w_X4_patch l2 x294 (fun x295 σ => w_rc σ l2 cX4 <| w_X4_thrown l2 (fun x296 σ => w_if (x296 = x293) (w_if (x293 = 0) (w_ll σ l3 0 fun x297 => w_if ((tw_lcmp x297 (x295.toInt64)) = 0) (w_L_law_b2546 b L xs (w_L_law_b28 b L xs Q X n) Q X l1 l2 l3 l4 l5 σ) ((0 : Int32) = 1)) (w_L_law_b2546 b L xs (w_L_law_b28 b L xs Q X n) Q X l1 l2 l3 l4 l5 σ)) ((0 : Int32) = 1)) (fun _ _ _ => False) σ) (fun _ _ _ => False) σ) (fun _ _ _ => False) σ) (w_if ((x1 &&& 63) = 36) (w_X0_conflictOperation l1 l3 (fun x299 σ => w_rc σ l2 cX4 <| w_X4_conflictOperation l2 (fun x300 σ => w_rc σ l2 cX4 <| w_X4_thrown l2 (fun x301 σ => w_if (x301 = x299) (w_if (x299 = 0) (w_ll σ l3 0 fun x302 => w_if ((tw_lcmp x302 (x300.toInt64)) = 0) (w_L_law_b2590 b L xs (w_L_law_b28 b L xs Q X n) Q X l1 l2 l3 l4 l5 σ) ((0 : Int32) = 1)) (w_L_law_b2590 b L xs (w_L_law_b28 b L xs Q X n) Q X l1 l2 l3 l4 l5 σ)) ((0 : Int32) = 1)) (fun _ _ _ => False) σ) (fun _ _ _ => False) σ) (fun _ _ _ => False) σ) (w_if ((x1 &&& 63) = 37) (w_X0_conflictReason l1 l3 (fun x304 σ => w_rc σ l2 cX4 <| w_X4_conflictReason l2 (fun x305 σ => w_rc σ l2 cX4 <| w_X4_thrown l2 (fun x306 σ => w_if (x306 = x304) (w_if (x304 = 0) (w_ll σ l3 0 fun x307 => w_if ((tw_lcmp x307 (x305.toInt64)) = 0) (w_L_law_b2634 b L xs (w_L_law_b28 b L xs Q X n) Q X l1 l2 l3 l4 l5 σ) ((0 : Int32) = 1)) (w_L_law_b2634 b L xs (w_L_law_b28 b L xs Q X n) Q X l1 l2 l3 l4 l5 σ)) ((0 : Int32) = 1)) (fun _ _ _ => False) σ) (fun _ _ _ => False) σ) (fun _ _ _ => False) σ) (w_if ((x1 &&& 63) = 38) (w_rc σ l1 cX1 <| w_X1_isConsistent l1 (fun x309 σ => w_rc σ l2 cX4 <| w_X4_isConsistent l2 (fun x310 σ => w_if (x309 = x310) (w_L_law_b2650 b L xs (w_L_law_b28 b L xs Q X n) Q X l1 l2 l3 l4 l5 σ) ((0 : Int32) = 1)) (fun _ _ _ => False) σ) (fun _ _ _ => False) σ) (w_L_law_b2650 b L xs (w_L_law_b28 b L xs Q X n) Q X l1 l2 l3 l4 l5 σ))))))))))))))))))))))))))))))))))))))))
def w_L_law_b0 (b L : Nat) (xs : Nat → Int32) (Q : Int32 → Tst → Prop) (X : String → Nat → Tst → Prop) (σ : Tst) : Prop := w_nw σ cX1 6 [.inr none, .inr none, .inr none, .inl 0, .inr none, .inr none] fun q1 σ => w_rf q1 <| w_X1_init q1 (fun σ => w_nw σ cX4 31 [.inr none, .inl 0, .inr none, .inl 0, .inl 0, .inl 0, .inl 0, .inr none, .inr none, .inr none, .inr none, .inr none, .inr none, .inr none, .inr none, .inl 0, .inr none, .inr none, .inr none, .inr none, .inr none, .inr none, .inr none, .inl 0, .inl 0, .inr none, .inr none, .inl 0, .inl 0, .inl 0, .inl 0] fun q3 σ => w_rf q3 <| w_X4_init q3 (fun σ => w_na σ 3 1 (.inr (.inl fun _ => 0)) fun q5 σ => w_na σ 4 1 (.inr (.inr (.inr (.inl fun _ => 0)))) fun q6 σ => ∃ z, w_L_law_b28 b L xs Q X z q1 q3 q5 q6 0 σ) (fun _ _ _ => False) σ) (fun _ _ _ => False) σ
set_option maxHeartbeats 4000000 in
theorem wk_L_law_b2650  (C : tw_C p l room_1 s m #[Value.ref b] meth c G cL_law 9 x.cls) (hr : meth.sig.returnType = (some .boolean)) (hmn : lw_sc G b L xs s) (hnx : True) (hfr : room_1.frames = 8192) (hRl : room_1.locals = 104096) {Q : Int32 → Tst → Prop} {X : String → Nat → Tst → Prop}  {k28 : Option Nat → Option Nat → Option Nat → Option Nat → Int32 → Tst → Prop} (hk28 : ∀ (l1 : Option Nat) (l2 : Option Nat) (l3 : Option Nat) (l4 : Option Nat) (l5 : Int32) (σ : Tst) (H : Heap) (locs : List Loc) (ls : Array Slot), k28 l1 l2 l3 l4 l5 σ → tw_R G σ H → va_S (tw_A G) s.heap H locs → tw_l ls 9 [(0, .inr (some b)), (1, .inr l1), (2, .inr l2), (3, .inr l3), (4, .inr l4), (5, .inl l5)] → tw_W p l e room_1 s m #[Value.ref b] below meth c σ H locs (lw_Z below #[Value.ref b] s) (F0 m 28 ls [])) (l1 : Option Nat) (l2 : Option Nat) (l3 : Option Nat) (l4 : Option Nat) (l5 : Int32) (σ : Tst) (H : Heap) (locs : List Loc) (ls : Array Slot) (hw : w_L_law_b2650 b L xs k28 Q X l1 l2 l3 l4 l5 σ) (hR : tw_R G σ H) (hS : va_S (tw_A G) s.heap H locs) (hl : tw_l ls 9 [(0, .inr (some b)), (1, .inr l1), (2, .inr l2), (3, .inr l3), (4, .inr l4), (5, .inl l5)]) : tw_W p l e room_1 s m #[Value.ref b] below meth c σ H locs (lw_Z below #[Value.ref b] s) (F0 m 2650 ls []) := by
  unfold w_L_law_b2650 at hw
  refine tk_iinc (L' := [(5, .inl (l5 + 5)), (0, .inr (some b)), (1, .inr l1), (2, .inr l2), (3, .inr l3), (4, .inr l4)]) (y := (l5 + 5)) C hl 5 dL_law_2650 rfl rfl (by decide) rfl (fun ls hl => ?_)
  refine lv_goto (tgt := 28) C.hx C.hb dL_law_2653 (by decide) ?_
  exact hk28 _ _ _ _ _ σ _ _ _ hw hR hS (tk_sub hl [1, 2, 3, 4, 5, 0] rfl)
set_option maxHeartbeats 4000000 in
theorem wk_L_law_b2634  (C : tw_C p l room_1 s m #[Value.ref b] meth c G cL_law 9 x.cls) (hr : meth.sig.returnType = (some .boolean)) (hmn : lw_sc G b L xs s) (hnx : True) (hfr : room_1.frames = 8192) (hRl : room_1.locals = 104096) {Q : Int32 → Tst → Prop} {X : String → Nat → Tst → Prop}  {k28 : Option Nat → Option Nat → Option Nat → Option Nat → Int32 → Tst → Prop} (hk28 : ∀ (l1 : Option Nat) (l2 : Option Nat) (l3 : Option Nat) (l4 : Option Nat) (l5 : Int32) (σ : Tst) (H : Heap) (locs : List Loc) (ls : Array Slot), k28 l1 l2 l3 l4 l5 σ → tw_R G σ H → va_S (tw_A G) s.heap H locs → tw_l ls 9 [(0, .inr (some b)), (1, .inr l1), (2, .inr l2), (3, .inr l3), (4, .inr l4), (5, .inl l5)] → tw_W p l e room_1 s m #[Value.ref b] below meth c σ H locs (lw_Z below #[Value.ref b] s) (F0 m 28 ls [])) (l1 : Option Nat) (l2 : Option Nat) (l3 : Option Nat) (l4 : Option Nat) (l5 : Int32) (σ : Tst) (H : Heap) (locs : List Loc) (ls : Array Slot) (hw : w_L_law_b2634 b L xs k28 Q X l1 l2 l3 l4 l5 σ) (hR : tw_R G σ H) (hS : va_S (tw_A G) s.heap H locs) (hl : tw_l ls 9 [(0, .inr (some b)), (1, .inr l1), (2, .inr l2), (3, .inr l3), (4, .inr l4), (5, .inl l5)]) : tw_W p l e room_1 s m #[Value.ref b] below meth c σ H locs (lw_Z below #[Value.ref b] s) (F0 m 2634 ls []) := by
  unfold w_L_law_b2634 at hw
  refine lv_goto (tgt := 2650) C.hx C.hb dL_law_2634 (by decide) ?_
  exact wk_L_law_b2650 C hr hmn hnx hfr hRl hk28 _ _ _ _ _ σ _ _ _ hw hR hS (tk_sub hl [0, 1, 2, 3, 4, 5] rfl)
set_option maxHeartbeats 4000000 in
theorem wk_L_law_b2590  (C : tw_C p l room_1 s m #[Value.ref b] meth c G cL_law 9 x.cls) (hr : meth.sig.returnType = (some .boolean)) (hmn : lw_sc G b L xs s) (hnx : True) (hfr : room_1.frames = 8192) (hRl : room_1.locals = 104096) {Q : Int32 → Tst → Prop} {X : String → Nat → Tst → Prop}  {k28 : Option Nat → Option Nat → Option Nat → Option Nat → Int32 → Tst → Prop} (hk28 : ∀ (l1 : Option Nat) (l2 : Option Nat) (l3 : Option Nat) (l4 : Option Nat) (l5 : Int32) (σ : Tst) (H : Heap) (locs : List Loc) (ls : Array Slot), k28 l1 l2 l3 l4 l5 σ → tw_R G σ H → va_S (tw_A G) s.heap H locs → tw_l ls 9 [(0, .inr (some b)), (1, .inr l1), (2, .inr l2), (3, .inr l3), (4, .inr l4), (5, .inl l5)] → tw_W p l e room_1 s m #[Value.ref b] below meth c σ H locs (lw_Z below #[Value.ref b] s) (F0 m 28 ls [])) (l1 : Option Nat) (l2 : Option Nat) (l3 : Option Nat) (l4 : Option Nat) (l5 : Int32) (σ : Tst) (H : Heap) (locs : List Loc) (ls : Array Slot) (hw : w_L_law_b2590 b L xs k28 Q X l1 l2 l3 l4 l5 σ) (hR : tw_R G σ H) (hS : va_S (tw_A G) s.heap H locs) (hl : tw_l ls 9 [(0, .inr (some b)), (1, .inr l1), (2, .inr l2), (3, .inr l3), (4, .inr l4), (5, .inl l5)]) : tw_W p l e room_1 s m #[Value.ref b] below meth c σ H locs (lw_Z below #[Value.ref b] s) (F0 m 2590 ls []) := by
  unfold w_L_law_b2590 at hw
  refine lv_goto (tgt := 2650) C.hx C.hb dL_law_2590 (by decide) ?_
  exact wk_L_law_b2650 C hr hmn hnx hfr hRl hk28 _ _ _ _ _ σ _ _ _ hw hR hS (tk_sub hl [0, 1, 2, 3, 4, 5] rfl)
set_option maxHeartbeats 4000000 in
theorem wk_L_law_b2546  (C : tw_C p l room_1 s m #[Value.ref b] meth c G cL_law 9 x.cls) (hr : meth.sig.returnType = (some .boolean)) (hmn : lw_sc G b L xs s) (hnx : True) (hfr : room_1.frames = 8192) (hRl : room_1.locals = 104096) {Q : Int32 → Tst → Prop} {X : String → Nat → Tst → Prop}  {k28 : Option Nat → Option Nat → Option Nat → Option Nat → Int32 → Tst → Prop} (hk28 : ∀ (l1 : Option Nat) (l2 : Option Nat) (l3 : Option Nat) (l4 : Option Nat) (l5 : Int32) (σ : Tst) (H : Heap) (locs : List Loc) (ls : Array Slot), k28 l1 l2 l3 l4 l5 σ → tw_R G σ H → va_S (tw_A G) s.heap H locs → tw_l ls 9 [(0, .inr (some b)), (1, .inr l1), (2, .inr l2), (3, .inr l3), (4, .inr l4), (5, .inl l5)] → tw_W p l e room_1 s m #[Value.ref b] below meth c σ H locs (lw_Z below #[Value.ref b] s) (F0 m 28 ls [])) (l1 : Option Nat) (l2 : Option Nat) (l3 : Option Nat) (l4 : Option Nat) (l5 : Int32) (σ : Tst) (H : Heap) (locs : List Loc) (ls : Array Slot) (hw : w_L_law_b2546 b L xs k28 Q X l1 l2 l3 l4 l5 σ) (hR : tw_R G σ H) (hS : va_S (tw_A G) s.heap H locs) (hl : tw_l ls 9 [(0, .inr (some b)), (1, .inr l1), (2, .inr l2), (3, .inr l3), (4, .inr l4), (5, .inl l5)]) : tw_W p l e room_1 s m #[Value.ref b] below meth c σ H locs (lw_Z below #[Value.ref b] s) (F0 m 2546 ls []) := by
  unfold w_L_law_b2546 at hw
  refine lv_goto (tgt := 2650) C.hx C.hb dL_law_2546 (by decide) ?_
  exact wk_L_law_b2650 C hr hmn hnx hfr hRl hk28 _ _ _ _ _ σ _ _ _ hw hR hS (tk_sub hl [0, 1, 2, 3, 4, 5] rfl)
set_option maxHeartbeats 4000000 in
theorem wk_L_law_b2490  (C : tw_C p l room_1 s m #[Value.ref b] meth c G cL_law 9 x.cls) (hr : meth.sig.returnType = (some .boolean)) (hmn : lw_sc G b L xs s) (hnx : True) (hfr : room_1.frames = 8192) (hRl : room_1.locals = 104096) {Q : Int32 → Tst → Prop} {X : String → Nat → Tst → Prop}  {k28 : Option Nat → Option Nat → Option Nat → Option Nat → Int32 → Tst → Prop} (hk28 : ∀ (l1 : Option Nat) (l2 : Option Nat) (l3 : Option Nat) (l4 : Option Nat) (l5 : Int32) (σ : Tst) (H : Heap) (locs : List Loc) (ls : Array Slot), k28 l1 l2 l3 l4 l5 σ → tw_R G σ H → va_S (tw_A G) s.heap H locs → tw_l ls 9 [(0, .inr (some b)), (1, .inr l1), (2, .inr l2), (3, .inr l3), (4, .inr l4), (5, .inl l5)] → tw_W p l e room_1 s m #[Value.ref b] below meth c σ H locs (lw_Z below #[Value.ref b] s) (F0 m 28 ls [])) (l1 : Option Nat) (l2 : Option Nat) (l3 : Option Nat) (l4 : Option Nat) (l5 : Int32) (σ : Tst) (H : Heap) (locs : List Loc) (ls : Array Slot) (hw : w_L_law_b2490 b L xs k28 Q X l1 l2 l3 l4 l5 σ) (hR : tw_R G σ H) (hS : va_S (tw_A G) s.heap H locs) (hl : tw_l ls 9 [(0, .inr (some b)), (1, .inr l1), (2, .inr l2), (3, .inr l3), (4, .inr l4), (5, .inl l5)]) : tw_W p l e room_1 s m #[Value.ref b] below meth c σ H locs (lw_Z below #[Value.ref b] s) (F0 m 2490 ls []) := by
  unfold w_L_law_b2490 at hw
  refine lv_goto (tgt := 2650) C.hx C.hb dL_law_2490 (by decide) ?_
  exact wk_L_law_b2650 C hr hmn hnx hfr hRl hk28 _ _ _ _ _ σ _ _ _ hw hR hS (tk_sub hl [0, 1, 2, 3, 4, 5] rfl)
set_option maxHeartbeats 4000000 in
theorem wk_L_law_b2484  (C : tw_C p l room_1 s m #[Value.ref b] meth c G cL_law 9 x.cls) (hr : meth.sig.returnType = (some .boolean)) (hmn : lw_sc G b L xs s) (hnx : True) (hfr : room_1.frames = 8192) (hRl : room_1.locals = 104096) {Q : Int32 → Tst → Prop} {X : String → Nat → Tst → Prop}  {k28 : Option Nat → Option Nat → Option Nat → Option Nat → Int32 → Tst → Prop} (hk28 : ∀ (l1 : Option Nat) (l2 : Option Nat) (l3 : Option Nat) (l4 : Option Nat) (l5 : Int32) (σ : Tst) (H : Heap) (locs : List Loc) (ls : Array Slot), k28 l1 l2 l3 l4 l5 σ → tw_R G σ H → va_S (tw_A G) s.heap H locs → tw_l ls 9 [(0, .inr (some b)), (1, .inr l1), (2, .inr l2), (3, .inr l3), (4, .inr l4), (5, .inl l5)] → tw_W p l e room_1 s m #[Value.ref b] below meth c σ H locs (lw_Z below #[Value.ref b] s) (F0 m 28 ls [])) (l1 : Option Nat) (l2 : Option Nat) (l3 : Option Nat) (l4 : Option Nat) (l5 : Int32) (s0 : Int64) (s1 : Int64) (σ : Tst) (H : Heap) (locs : List Loc) (ls : Array Slot) (hw : w_L_law_b2484 b L xs k28 Q X l1 l2 l3 l4 l5 s0 s1 σ) (hR : tw_R G σ H) (hS : va_S (tw_A G) s.heap H locs) (hl : tw_l ls 9 [(0, .inr (some b)), (1, .inr l1), (2, .inr l2), (3, .inr l3), (4, .inr l4), (5, .inl l5)]) : tw_W p l e room_1 s m #[Value.ref b] below meth c σ H locs (lw_Z below #[Value.ref b] s) (F0 m 2484 ls [.long s1, .long s0]) := by
  unfold w_L_law_b2484 at hw
  refine tk_lcmp C dL_law_2484 ?_
  refine lv_if_eq (tgt := 2490) C.hx C.hb dL_law_2485 (by decide) (fun c2485 => ?_) (fun c2485 => ?_)
  · replace hw := hw.1 c2485
    exact wk_L_law_b2490 C hr hmn hnx hfr hRl hk28 _ _ _ _ _ σ _ _ _ hw hR hS (tk_sub hl [0, 1, 2, 3, 4, 5] rfl)
  · replace hw := hw.2 c2485
    refine lv_iconst (v := 0) C.hx C.hb dL_law_2488 (by decide) ?_
    exact tw_lret C hS hr hmn dL_law_2489 hw
set_option maxHeartbeats 4000000 in
theorem wk_L_law_b2439  (C : tw_C p l room_1 s m #[Value.ref b] meth c G cL_law 9 x.cls) (hr : meth.sig.returnType = (some .boolean)) (hmn : lw_sc G b L xs s) (hnx : True) (hfr : room_1.frames = 8192) (hRl : room_1.locals = 104096) {Q : Int32 → Tst → Prop} {X : String → Nat → Tst → Prop}  {k28 : Option Nat → Option Nat → Option Nat → Option Nat → Int32 → Tst → Prop} (hk28 : ∀ (l1 : Option Nat) (l2 : Option Nat) (l3 : Option Nat) (l4 : Option Nat) (l5 : Int32) (σ : Tst) (H : Heap) (locs : List Loc) (ls : Array Slot), k28 l1 l2 l3 l4 l5 σ → tw_R G σ H → va_S (tw_A G) s.heap H locs → tw_l ls 9 [(0, .inr (some b)), (1, .inr l1), (2, .inr l2), (3, .inr l3), (4, .inr l4), (5, .inl l5)] → tw_W p l e room_1 s m #[Value.ref b] below meth c σ H locs (lw_Z below #[Value.ref b] s) (F0 m 28 ls [])) (l1 : Option Nat) (l2 : Option Nat) (l3 : Option Nat) (l4 : Option Nat) (l5 : Int32) (σ : Tst) (H : Heap) (locs : List Loc) (ls : Array Slot) (hw : w_L_law_b2439 b L xs k28 Q X l1 l2 l3 l4 l5 σ) (hR : tw_R G σ H) (hS : va_S (tw_A G) s.heap H locs) (hl : tw_l ls 9 [(0, .inr (some b)), (1, .inr l1), (2, .inr l2), (3, .inr l3), (4, .inr l4), (5, .inl l5)]) : tw_W p l e room_1 s m #[Value.ref b] below meth c σ H locs (lw_Z below #[Value.ref b] s) (F0 m 2439 ls []) := by
  unfold w_L_law_b2439 at hw
  refine lv_goto (tgt := 2650) C.hx C.hb dL_law_2439 (by decide) ?_
  exact wk_L_law_b2650 C hr hmn hnx hfr hRl hk28 _ _ _ _ _ σ _ _ _ hw hR hS (tk_sub hl [0, 1, 2, 3, 4, 5] rfl)
set_option maxHeartbeats 4000000 in
theorem wk_L_law_b2395  (C : tw_C p l room_1 s m #[Value.ref b] meth c G cL_law 9 x.cls) (hr : meth.sig.returnType = (some .boolean)) (hmn : lw_sc G b L xs s) (hnx : True) (hfr : room_1.frames = 8192) (hRl : room_1.locals = 104096) {Q : Int32 → Tst → Prop} {X : String → Nat → Tst → Prop}  {k28 : Option Nat → Option Nat → Option Nat → Option Nat → Int32 → Tst → Prop} (hk28 : ∀ (l1 : Option Nat) (l2 : Option Nat) (l3 : Option Nat) (l4 : Option Nat) (l5 : Int32) (σ : Tst) (H : Heap) (locs : List Loc) (ls : Array Slot), k28 l1 l2 l3 l4 l5 σ → tw_R G σ H → va_S (tw_A G) s.heap H locs → tw_l ls 9 [(0, .inr (some b)), (1, .inr l1), (2, .inr l2), (3, .inr l3), (4, .inr l4), (5, .inl l5)] → tw_W p l e room_1 s m #[Value.ref b] below meth c σ H locs (lw_Z below #[Value.ref b] s) (F0 m 28 ls [])) (l1 : Option Nat) (l2 : Option Nat) (l3 : Option Nat) (l4 : Option Nat) (l5 : Int32) (σ : Tst) (H : Heap) (locs : List Loc) (ls : Array Slot) (hw : w_L_law_b2395 b L xs k28 Q X l1 l2 l3 l4 l5 σ) (hR : tw_R G σ H) (hS : va_S (tw_A G) s.heap H locs) (hl : tw_l ls 9 [(0, .inr (some b)), (1, .inr l1), (2, .inr l2), (3, .inr l3), (4, .inr l4), (5, .inl l5)]) : tw_W p l e room_1 s m #[Value.ref b] below meth c σ H locs (lw_Z below #[Value.ref b] s) (F0 m 2395 ls []) := by
  unfold w_L_law_b2395 at hw
  refine lv_goto (tgt := 2650) C.hx C.hb dL_law_2395 (by decide) ?_
  exact wk_L_law_b2650 C hr hmn hnx hfr hRl hk28 _ _ _ _ _ σ _ _ _ hw hR hS (tk_sub hl [0, 1, 2, 3, 4, 5] rfl)
set_option maxHeartbeats 4000000 in
theorem wk_L_law_b2351  (C : tw_C p l room_1 s m #[Value.ref b] meth c G cL_law 9 x.cls) (hr : meth.sig.returnType = (some .boolean)) (hmn : lw_sc G b L xs s) (hnx : True) (hfr : room_1.frames = 8192) (hRl : room_1.locals = 104096) {Q : Int32 → Tst → Prop} {X : String → Nat → Tst → Prop}  {k28 : Option Nat → Option Nat → Option Nat → Option Nat → Int32 → Tst → Prop} (hk28 : ∀ (l1 : Option Nat) (l2 : Option Nat) (l3 : Option Nat) (l4 : Option Nat) (l5 : Int32) (σ : Tst) (H : Heap) (locs : List Loc) (ls : Array Slot), k28 l1 l2 l3 l4 l5 σ → tw_R G σ H → va_S (tw_A G) s.heap H locs → tw_l ls 9 [(0, .inr (some b)), (1, .inr l1), (2, .inr l2), (3, .inr l3), (4, .inr l4), (5, .inl l5)] → tw_W p l e room_1 s m #[Value.ref b] below meth c σ H locs (lw_Z below #[Value.ref b] s) (F0 m 28 ls [])) (l1 : Option Nat) (l2 : Option Nat) (l3 : Option Nat) (l4 : Option Nat) (l5 : Int32) (σ : Tst) (H : Heap) (locs : List Loc) (ls : Array Slot) (hw : w_L_law_b2351 b L xs k28 Q X l1 l2 l3 l4 l5 σ) (hR : tw_R G σ H) (hS : va_S (tw_A G) s.heap H locs) (hl : tw_l ls 9 [(0, .inr (some b)), (1, .inr l1), (2, .inr l2), (3, .inr l3), (4, .inr l4), (5, .inl l5)]) : tw_W p l e room_1 s m #[Value.ref b] below meth c σ H locs (lw_Z below #[Value.ref b] s) (F0 m 2351 ls []) := by
  unfold w_L_law_b2351 at hw
  refine lv_goto (tgt := 2650) C.hx C.hb dL_law_2351 (by decide) ?_
  exact wk_L_law_b2650 C hr hmn hnx hfr hRl hk28 _ _ _ _ _ σ _ _ _ hw hR hS (tk_sub hl [0, 1, 2, 3, 4, 5] rfl)
set_option maxHeartbeats 4000000 in
theorem wk_L_law_b2295  (C : tw_C p l room_1 s m #[Value.ref b] meth c G cL_law 9 x.cls) (hr : meth.sig.returnType = (some .boolean)) (hmn : lw_sc G b L xs s) (hnx : True) (hfr : room_1.frames = 8192) (hRl : room_1.locals = 104096) {Q : Int32 → Tst → Prop} {X : String → Nat → Tst → Prop}  {k28 : Option Nat → Option Nat → Option Nat → Option Nat → Int32 → Tst → Prop} (hk28 : ∀ (l1 : Option Nat) (l2 : Option Nat) (l3 : Option Nat) (l4 : Option Nat) (l5 : Int32) (σ : Tst) (H : Heap) (locs : List Loc) (ls : Array Slot), k28 l1 l2 l3 l4 l5 σ → tw_R G σ H → va_S (tw_A G) s.heap H locs → tw_l ls 9 [(0, .inr (some b)), (1, .inr l1), (2, .inr l2), (3, .inr l3), (4, .inr l4), (5, .inl l5)] → tw_W p l e room_1 s m #[Value.ref b] below meth c σ H locs (lw_Z below #[Value.ref b] s) (F0 m 28 ls [])) (l1 : Option Nat) (l2 : Option Nat) (l3 : Option Nat) (l4 : Option Nat) (l5 : Int32) (σ : Tst) (H : Heap) (locs : List Loc) (ls : Array Slot) (hw : w_L_law_b2295 b L xs k28 Q X l1 l2 l3 l4 l5 σ) (hR : tw_R G σ H) (hS : va_S (tw_A G) s.heap H locs) (hl : tw_l ls 9 [(0, .inr (some b)), (1, .inr l1), (2, .inr l2), (3, .inr l3), (4, .inr l4), (5, .inl l5)]) : tw_W p l e room_1 s m #[Value.ref b] below meth c σ H locs (lw_Z below #[Value.ref b] s) (F0 m 2295 ls []) := by
  unfold w_L_law_b2295 at hw
  refine lv_goto (tgt := 2650) C.hx C.hb dL_law_2295 (by decide) ?_
  exact wk_L_law_b2650 C hr hmn hnx hfr hRl hk28 _ _ _ _ _ σ _ _ _ hw hR hS (tk_sub hl [0, 1, 2, 3, 4, 5] rfl)
set_option maxHeartbeats 4000000 in
theorem wk_L_law_b2239  (C : tw_C p l room_1 s m #[Value.ref b] meth c G cL_law 9 x.cls) (hr : meth.sig.returnType = (some .boolean)) (hmn : lw_sc G b L xs s) (hnx : True) (hfr : room_1.frames = 8192) (hRl : room_1.locals = 104096) {Q : Int32 → Tst → Prop} {X : String → Nat → Tst → Prop}  {k28 : Option Nat → Option Nat → Option Nat → Option Nat → Int32 → Tst → Prop} (hk28 : ∀ (l1 : Option Nat) (l2 : Option Nat) (l3 : Option Nat) (l4 : Option Nat) (l5 : Int32) (σ : Tst) (H : Heap) (locs : List Loc) (ls : Array Slot), k28 l1 l2 l3 l4 l5 σ → tw_R G σ H → va_S (tw_A G) s.heap H locs → tw_l ls 9 [(0, .inr (some b)), (1, .inr l1), (2, .inr l2), (3, .inr l3), (4, .inr l4), (5, .inl l5)] → tw_W p l e room_1 s m #[Value.ref b] below meth c σ H locs (lw_Z below #[Value.ref b] s) (F0 m 28 ls [])) (l1 : Option Nat) (l2 : Option Nat) (l3 : Option Nat) (l4 : Option Nat) (l5 : Int32) (σ : Tst) (H : Heap) (locs : List Loc) (ls : Array Slot) (hw : w_L_law_b2239 b L xs k28 Q X l1 l2 l3 l4 l5 σ) (hR : tw_R G σ H) (hS : va_S (tw_A G) s.heap H locs) (hl : tw_l ls 9 [(0, .inr (some b)), (1, .inr l1), (2, .inr l2), (3, .inr l3), (4, .inr l4), (5, .inl l5)]) : tw_W p l e room_1 s m #[Value.ref b] below meth c σ H locs (lw_Z below #[Value.ref b] s) (F0 m 2239 ls []) := by
  unfold w_L_law_b2239 at hw
  refine lv_goto (tgt := 2650) C.hx C.hb dL_law_2239 (by decide) ?_
  exact wk_L_law_b2650 C hr hmn hnx hfr hRl hk28 _ _ _ _ _ σ _ _ _ hw hR hS (tk_sub hl [0, 1, 2, 3, 4, 5] rfl)
set_option maxHeartbeats 4000000 in
theorem wk_L_law_b2183  (C : tw_C p l room_1 s m #[Value.ref b] meth c G cL_law 9 x.cls) (hr : meth.sig.returnType = (some .boolean)) (hmn : lw_sc G b L xs s) (hnx : True) (hfr : room_1.frames = 8192) (hRl : room_1.locals = 104096) {Q : Int32 → Tst → Prop} {X : String → Nat → Tst → Prop}  {k28 : Option Nat → Option Nat → Option Nat → Option Nat → Int32 → Tst → Prop} (hk28 : ∀ (l1 : Option Nat) (l2 : Option Nat) (l3 : Option Nat) (l4 : Option Nat) (l5 : Int32) (σ : Tst) (H : Heap) (locs : List Loc) (ls : Array Slot), k28 l1 l2 l3 l4 l5 σ → tw_R G σ H → va_S (tw_A G) s.heap H locs → tw_l ls 9 [(0, .inr (some b)), (1, .inr l1), (2, .inr l2), (3, .inr l3), (4, .inr l4), (5, .inl l5)] → tw_W p l e room_1 s m #[Value.ref b] below meth c σ H locs (lw_Z below #[Value.ref b] s) (F0 m 28 ls [])) (l1 : Option Nat) (l2 : Option Nat) (l3 : Option Nat) (l4 : Option Nat) (l5 : Int32) (σ : Tst) (H : Heap) (locs : List Loc) (ls : Array Slot) (hw : w_L_law_b2183 b L xs k28 Q X l1 l2 l3 l4 l5 σ) (hR : tw_R G σ H) (hS : va_S (tw_A G) s.heap H locs) (hl : tw_l ls 9 [(0, .inr (some b)), (1, .inr l1), (2, .inr l2), (3, .inr l3), (4, .inr l4), (5, .inl l5)]) : tw_W p l e room_1 s m #[Value.ref b] below meth c σ H locs (lw_Z below #[Value.ref b] s) (F0 m 2183 ls []) := by
  unfold w_L_law_b2183 at hw
  refine lv_goto (tgt := 2650) C.hx C.hb dL_law_2183 (by decide) ?_
  exact wk_L_law_b2650 C hr hmn hnx hfr hRl hk28 _ _ _ _ _ σ _ _ _ hw hR hS (tk_sub hl [0, 1, 2, 3, 4, 5] rfl)
set_option maxHeartbeats 4000000 in
theorem wk_L_law_b2127  (C : tw_C p l room_1 s m #[Value.ref b] meth c G cL_law 9 x.cls) (hr : meth.sig.returnType = (some .boolean)) (hmn : lw_sc G b L xs s) (hnx : True) (hfr : room_1.frames = 8192) (hRl : room_1.locals = 104096) {Q : Int32 → Tst → Prop} {X : String → Nat → Tst → Prop}  {k28 : Option Nat → Option Nat → Option Nat → Option Nat → Int32 → Tst → Prop} (hk28 : ∀ (l1 : Option Nat) (l2 : Option Nat) (l3 : Option Nat) (l4 : Option Nat) (l5 : Int32) (σ : Tst) (H : Heap) (locs : List Loc) (ls : Array Slot), k28 l1 l2 l3 l4 l5 σ → tw_R G σ H → va_S (tw_A G) s.heap H locs → tw_l ls 9 [(0, .inr (some b)), (1, .inr l1), (2, .inr l2), (3, .inr l3), (4, .inr l4), (5, .inl l5)] → tw_W p l e room_1 s m #[Value.ref b] below meth c σ H locs (lw_Z below #[Value.ref b] s) (F0 m 28 ls [])) (l1 : Option Nat) (l2 : Option Nat) (l3 : Option Nat) (l4 : Option Nat) (l5 : Int32) (σ : Tst) (H : Heap) (locs : List Loc) (ls : Array Slot) (hw : w_L_law_b2127 b L xs k28 Q X l1 l2 l3 l4 l5 σ) (hR : tw_R G σ H) (hS : va_S (tw_A G) s.heap H locs) (hl : tw_l ls 9 [(0, .inr (some b)), (1, .inr l1), (2, .inr l2), (3, .inr l3), (4, .inr l4), (5, .inl l5)]) : tw_W p l e room_1 s m #[Value.ref b] below meth c σ H locs (lw_Z below #[Value.ref b] s) (F0 m 2127 ls []) := by
  unfold w_L_law_b2127 at hw
  refine lv_goto (tgt := 2650) C.hx C.hb dL_law_2127 (by decide) ?_
  exact wk_L_law_b2650 C hr hmn hnx hfr hRl hk28 _ _ _ _ _ σ _ _ _ hw hR hS (tk_sub hl [0, 1, 2, 3, 4, 5] rfl)
set_option maxHeartbeats 4000000 in
theorem wk_L_law_b2083  (C : tw_C p l room_1 s m #[Value.ref b] meth c G cL_law 9 x.cls) (hr : meth.sig.returnType = (some .boolean)) (hmn : lw_sc G b L xs s) (hnx : True) (hfr : room_1.frames = 8192) (hRl : room_1.locals = 104096) {Q : Int32 → Tst → Prop} {X : String → Nat → Tst → Prop}  {k28 : Option Nat → Option Nat → Option Nat → Option Nat → Int32 → Tst → Prop} (hk28 : ∀ (l1 : Option Nat) (l2 : Option Nat) (l3 : Option Nat) (l4 : Option Nat) (l5 : Int32) (σ : Tst) (H : Heap) (locs : List Loc) (ls : Array Slot), k28 l1 l2 l3 l4 l5 σ → tw_R G σ H → va_S (tw_A G) s.heap H locs → tw_l ls 9 [(0, .inr (some b)), (1, .inr l1), (2, .inr l2), (3, .inr l3), (4, .inr l4), (5, .inl l5)] → tw_W p l e room_1 s m #[Value.ref b] below meth c σ H locs (lw_Z below #[Value.ref b] s) (F0 m 28 ls [])) (l1 : Option Nat) (l2 : Option Nat) (l3 : Option Nat) (l4 : Option Nat) (l5 : Int32) (σ : Tst) (H : Heap) (locs : List Loc) (ls : Array Slot) (hw : w_L_law_b2083 b L xs k28 Q X l1 l2 l3 l4 l5 σ) (hR : tw_R G σ H) (hS : va_S (tw_A G) s.heap H locs) (hl : tw_l ls 9 [(0, .inr (some b)), (1, .inr l1), (2, .inr l2), (3, .inr l3), (4, .inr l4), (5, .inl l5)]) : tw_W p l e room_1 s m #[Value.ref b] below meth c σ H locs (lw_Z below #[Value.ref b] s) (F0 m 2083 ls []) := by
  unfold w_L_law_b2083 at hw
  refine lv_goto (tgt := 2650) C.hx C.hb dL_law_2083 (by decide) ?_
  exact wk_L_law_b2650 C hr hmn hnx hfr hRl hk28 _ _ _ _ _ σ _ _ _ hw hR hS (tk_sub hl [0, 1, 2, 3, 4, 5] rfl)
set_option maxHeartbeats 4000000 in
theorem wk_L_law_b2015  (C : tw_C p l room_1 s m #[Value.ref b] meth c G cL_law 9 x.cls) (hr : meth.sig.returnType = (some .boolean)) (hmn : lw_sc G b L xs s) (hnx : True) (hfr : room_1.frames = 8192) (hRl : room_1.locals = 104096) {Q : Int32 → Tst → Prop} {X : String → Nat → Tst → Prop}  {k28 : Option Nat → Option Nat → Option Nat → Option Nat → Int32 → Tst → Prop} (hk28 : ∀ (l1 : Option Nat) (l2 : Option Nat) (l3 : Option Nat) (l4 : Option Nat) (l5 : Int32) (σ : Tst) (H : Heap) (locs : List Loc) (ls : Array Slot), k28 l1 l2 l3 l4 l5 σ → tw_R G σ H → va_S (tw_A G) s.heap H locs → tw_l ls 9 [(0, .inr (some b)), (1, .inr l1), (2, .inr l2), (3, .inr l3), (4, .inr l4), (5, .inl l5)] → tw_W p l e room_1 s m #[Value.ref b] below meth c σ H locs (lw_Z below #[Value.ref b] s) (F0 m 28 ls [])) (l1 : Option Nat) (l2 : Option Nat) (l3 : Option Nat) (l4 : Option Nat) (l5 : Int32) (σ : Tst) (H : Heap) (locs : List Loc) (ls : Array Slot) (hw : w_L_law_b2015 b L xs k28 Q X l1 l2 l3 l4 l5 σ) (hR : tw_R G σ H) (hS : va_S (tw_A G) s.heap H locs) (hl : tw_l ls 9 [(0, .inr (some b)), (1, .inr l1), (2, .inr l2), (3, .inr l3), (4, .inr l4), (5, .inl l5)]) : tw_W p l e room_1 s m #[Value.ref b] below meth c σ H locs (lw_Z below #[Value.ref b] s) (F0 m 2015 ls []) := by
  unfold w_L_law_b2015 at hw
  refine lv_goto (tgt := 2650) C.hx C.hb dL_law_2015 (by decide) ?_
  exact wk_L_law_b2650 C hr hmn hnx hfr hRl hk28 _ _ _ _ _ σ _ _ _ hw hR hS (tk_sub hl [0, 1, 2, 3, 4, 5] rfl)
set_option maxHeartbeats 4000000 in
theorem wk_L_law_b2013  (C : tw_C p l room_1 s m #[Value.ref b] meth c G cL_law 9 x.cls) (hr : meth.sig.returnType = (some .boolean)) (hmn : lw_sc G b L xs s) (hnx : True) (hfr : room_1.frames = 8192) (hRl : room_1.locals = 104096) {Q : Int32 → Tst → Prop} {X : String → Nat → Tst → Prop}   (σ : Tst) (H : Heap) (locs : List Loc) (ls : Array Slot) (hw : w_L_law_b2013 b L xs Q X  σ) (hR : tw_R G σ H) (hS : va_S (tw_A G) s.heap H locs) (hl : tw_l ls 9 [(0, .inr (some b))]) : tw_W p l e room_1 s m #[Value.ref b] below meth c σ H locs (lw_Z below #[Value.ref b] s) (F0 m 2013 ls []) := by
  unfold w_L_law_b2013 at hw
  refine lv_iconst (v := 0) C.hx C.hb dL_law_2013 (by decide) ?_
  exact tw_lret C hS hr hmn dL_law_2014 hw
set_option maxHeartbeats 4000000 in
theorem wk_L_law_b1926  (C : tw_C p l room_1 s m #[Value.ref b] meth c G cL_law 9 x.cls) (hr : meth.sig.returnType = (some .boolean)) (hmn : lw_sc G b L xs s) (hnx : True) (hfr : room_1.frames = 8192) (hRl : room_1.locals = 104096) {Q : Int32 → Tst → Prop} {X : String → Nat → Tst → Prop}  {k28 : Option Nat → Option Nat → Option Nat → Option Nat → Int32 → Tst → Prop} (hk28 : ∀ (l1 : Option Nat) (l2 : Option Nat) (l3 : Option Nat) (l4 : Option Nat) (l5 : Int32) (σ : Tst) (H : Heap) (locs : List Loc) (ls : Array Slot), k28 l1 l2 l3 l4 l5 σ → tw_R G σ H → va_S (tw_A G) s.heap H locs → tw_l ls 9 [(0, .inr (some b)), (1, .inr l1), (2, .inr l2), (3, .inr l3), (4, .inr l4), (5, .inl l5)] → tw_W p l e room_1 s m #[Value.ref b] below meth c σ H locs (lw_Z below #[Value.ref b] s) (F0 m 28 ls [])) (l1 : Option Nat) (l2 : Option Nat) (l3 : Option Nat) (l4 : Option Nat) (l5 : Int32) (σ : Tst) (H : Heap) (locs : List Loc) (ls : Array Slot) (hw : w_L_law_b1926 b L xs k28 Q X l1 l2 l3 l4 l5 σ) (hR : tw_R G σ H) (hS : va_S (tw_A G) s.heap H locs) (hl : tw_l ls 9 [(0, .inr (some b)), (1, .inr l1), (2, .inr l2), (3, .inr l3), (4, .inr l4), (5, .inl l5)]) : tw_W p l e room_1 s m #[Value.ref b] below meth c σ H locs (lw_Z below #[Value.ref b] s) (F0 m 1926 ls []) := by
  unfold w_L_law_b1926 at hw
  refine lv_goto (tgt := 2650) C.hx C.hb dL_law_1926 (by decide) ?_
  exact wk_L_law_b2650 C hr hmn hnx hfr hRl hk28 _ _ _ _ _ σ _ _ _ hw hR hS (tk_sub hl [0, 1, 2, 3, 4, 5] rfl)
set_option maxHeartbeats 4000000 in
theorem wk_L_law_b1858  (C : tw_C p l room_1 s m #[Value.ref b] meth c G cL_law 9 x.cls) (hr : meth.sig.returnType = (some .boolean)) (hmn : lw_sc G b L xs s) (hnx : True) (hfr : room_1.frames = 8192) (hRl : room_1.locals = 104096) {Q : Int32 → Tst → Prop} {X : String → Nat → Tst → Prop}  {k28 : Option Nat → Option Nat → Option Nat → Option Nat → Int32 → Tst → Prop} (hk28 : ∀ (l1 : Option Nat) (l2 : Option Nat) (l3 : Option Nat) (l4 : Option Nat) (l5 : Int32) (σ : Tst) (H : Heap) (locs : List Loc) (ls : Array Slot), k28 l1 l2 l3 l4 l5 σ → tw_R G σ H → va_S (tw_A G) s.heap H locs → tw_l ls 9 [(0, .inr (some b)), (1, .inr l1), (2, .inr l2), (3, .inr l3), (4, .inr l4), (5, .inl l5)] → tw_W p l e room_1 s m #[Value.ref b] below meth c σ H locs (lw_Z below #[Value.ref b] s) (F0 m 28 ls [])) (l1 : Option Nat) (l2 : Option Nat) (l3 : Option Nat) (l4 : Option Nat) (l5 : Int32) (σ : Tst) (H : Heap) (locs : List Loc) (ls : Array Slot) (hw : w_L_law_b1858 b L xs k28 Q X l1 l2 l3 l4 l5 σ) (hR : tw_R G σ H) (hS : va_S (tw_A G) s.heap H locs) (hl : tw_l ls 9 [(0, .inr (some b)), (1, .inr l1), (2, .inr l2), (3, .inr l3), (4, .inr l4), (5, .inl l5)]) : tw_W p l e room_1 s m #[Value.ref b] below meth c σ H locs (lw_Z below #[Value.ref b] s) (F0 m 1858 ls []) := by
  unfold w_L_law_b1858 at hw
  refine lv_goto (tgt := 2650) C.hx C.hb dL_law_1858 (by decide) ?_
  exact wk_L_law_b2650 C hr hmn hnx hfr hRl hk28 _ _ _ _ _ σ _ _ _ hw hR hS (tk_sub hl [0, 1, 2, 3, 4, 5] rfl)
set_option maxHeartbeats 4000000 in
theorem wk_L_law_b1790  (C : tw_C p l room_1 s m #[Value.ref b] meth c G cL_law 9 x.cls) (hr : meth.sig.returnType = (some .boolean)) (hmn : lw_sc G b L xs s) (hnx : True) (hfr : room_1.frames = 8192) (hRl : room_1.locals = 104096) {Q : Int32 → Tst → Prop} {X : String → Nat → Tst → Prop}  {k28 : Option Nat → Option Nat → Option Nat → Option Nat → Int32 → Tst → Prop} (hk28 : ∀ (l1 : Option Nat) (l2 : Option Nat) (l3 : Option Nat) (l4 : Option Nat) (l5 : Int32) (σ : Tst) (H : Heap) (locs : List Loc) (ls : Array Slot), k28 l1 l2 l3 l4 l5 σ → tw_R G σ H → va_S (tw_A G) s.heap H locs → tw_l ls 9 [(0, .inr (some b)), (1, .inr l1), (2, .inr l2), (3, .inr l3), (4, .inr l4), (5, .inl l5)] → tw_W p l e room_1 s m #[Value.ref b] below meth c σ H locs (lw_Z below #[Value.ref b] s) (F0 m 28 ls [])) (l1 : Option Nat) (l2 : Option Nat) (l3 : Option Nat) (l4 : Option Nat) (l5 : Int32) (σ : Tst) (H : Heap) (locs : List Loc) (ls : Array Slot) (hw : w_L_law_b1790 b L xs k28 Q X l1 l2 l3 l4 l5 σ) (hR : tw_R G σ H) (hS : va_S (tw_A G) s.heap H locs) (hl : tw_l ls 9 [(0, .inr (some b)), (1, .inr l1), (2, .inr l2), (3, .inr l3), (4, .inr l4), (5, .inl l5)]) : tw_W p l e room_1 s m #[Value.ref b] below meth c σ H locs (lw_Z below #[Value.ref b] s) (F0 m 1790 ls []) := by
  unfold w_L_law_b1790 at hw
  refine lv_goto (tgt := 2650) C.hx C.hb dL_law_1790 (by decide) ?_
  exact wk_L_law_b2650 C hr hmn hnx hfr hRl hk28 _ _ _ _ _ σ _ _ _ hw hR hS (tk_sub hl [0, 1, 2, 3, 4, 5] rfl)
set_option maxHeartbeats 4000000 in
theorem wk_L_law_b1710  (C : tw_C p l room_1 s m #[Value.ref b] meth c G cL_law 9 x.cls) (hr : meth.sig.returnType = (some .boolean)) (hmn : lw_sc G b L xs s) (hnx : True) (hfr : room_1.frames = 8192) (hRl : room_1.locals = 104096) {Q : Int32 → Tst → Prop} {X : String → Nat → Tst → Prop}  {k28 : Option Nat → Option Nat → Option Nat → Option Nat → Int32 → Tst → Prop} (hk28 : ∀ (l1 : Option Nat) (l2 : Option Nat) (l3 : Option Nat) (l4 : Option Nat) (l5 : Int32) (σ : Tst) (H : Heap) (locs : List Loc) (ls : Array Slot), k28 l1 l2 l3 l4 l5 σ → tw_R G σ H → va_S (tw_A G) s.heap H locs → tw_l ls 9 [(0, .inr (some b)), (1, .inr l1), (2, .inr l2), (3, .inr l3), (4, .inr l4), (5, .inl l5)] → tw_W p l e room_1 s m #[Value.ref b] below meth c σ H locs (lw_Z below #[Value.ref b] s) (F0 m 28 ls [])) (l1 : Option Nat) (l2 : Option Nat) (l3 : Option Nat) (l4 : Option Nat) (l5 : Int32) (σ : Tst) (H : Heap) (locs : List Loc) (ls : Array Slot) (hw : w_L_law_b1710 b L xs k28 Q X l1 l2 l3 l4 l5 σ) (hR : tw_R G σ H) (hS : va_S (tw_A G) s.heap H locs) (hl : tw_l ls 9 [(0, .inr (some b)), (1, .inr l1), (2, .inr l2), (3, .inr l3), (4, .inr l4), (5, .inl l5)]) : tw_W p l e room_1 s m #[Value.ref b] below meth c σ H locs (lw_Z below #[Value.ref b] s) (F0 m 1710 ls []) := by
  unfold w_L_law_b1710 at hw
  refine lv_goto (tgt := 2650) C.hx C.hb dL_law_1710 (by decide) ?_
  exact wk_L_law_b2650 C hr hmn hnx hfr hRl hk28 _ _ _ _ _ σ _ _ _ hw hR hS (tk_sub hl [0, 1, 2, 3, 4, 5] rfl)
set_option maxHeartbeats 4000000 in
theorem wk_L_law_b1630  (C : tw_C p l room_1 s m #[Value.ref b] meth c G cL_law 9 x.cls) (hr : meth.sig.returnType = (some .boolean)) (hmn : lw_sc G b L xs s) (hnx : True) (hfr : room_1.frames = 8192) (hRl : room_1.locals = 104096) {Q : Int32 → Tst → Prop} {X : String → Nat → Tst → Prop}  {k28 : Option Nat → Option Nat → Option Nat → Option Nat → Int32 → Tst → Prop} (hk28 : ∀ (l1 : Option Nat) (l2 : Option Nat) (l3 : Option Nat) (l4 : Option Nat) (l5 : Int32) (σ : Tst) (H : Heap) (locs : List Loc) (ls : Array Slot), k28 l1 l2 l3 l4 l5 σ → tw_R G σ H → va_S (tw_A G) s.heap H locs → tw_l ls 9 [(0, .inr (some b)), (1, .inr l1), (2, .inr l2), (3, .inr l3), (4, .inr l4), (5, .inl l5)] → tw_W p l e room_1 s m #[Value.ref b] below meth c σ H locs (lw_Z below #[Value.ref b] s) (F0 m 28 ls [])) (l1 : Option Nat) (l2 : Option Nat) (l3 : Option Nat) (l4 : Option Nat) (l5 : Int32) (σ : Tst) (H : Heap) (locs : List Loc) (ls : Array Slot) (hw : w_L_law_b1630 b L xs k28 Q X l1 l2 l3 l4 l5 σ) (hR : tw_R G σ H) (hS : va_S (tw_A G) s.heap H locs) (hl : tw_l ls 9 [(0, .inr (some b)), (1, .inr l1), (2, .inr l2), (3, .inr l3), (4, .inr l4), (5, .inl l5)]) : tw_W p l e room_1 s m #[Value.ref b] below meth c σ H locs (lw_Z below #[Value.ref b] s) (F0 m 1630 ls []) := by
  unfold w_L_law_b1630 at hw
  refine lv_goto (tgt := 2650) C.hx C.hb dL_law_1630 (by decide) ?_
  exact wk_L_law_b2650 C hr hmn hnx hfr hRl hk28 _ _ _ _ _ σ _ _ _ hw hR hS (tk_sub hl [0, 1, 2, 3, 4, 5] rfl)
set_option maxHeartbeats 4000000 in
theorem wk_L_law_b1624  (C : tw_C p l room_1 s m #[Value.ref b] meth c G cL_law 9 x.cls) (hr : meth.sig.returnType = (some .boolean)) (hmn : lw_sc G b L xs s) (hnx : True) (hfr : room_1.frames = 8192) (hRl : room_1.locals = 104096) {Q : Int32 → Tst → Prop} {X : String → Nat → Tst → Prop}  {k28 : Option Nat → Option Nat → Option Nat → Option Nat → Int32 → Tst → Prop} (hk28 : ∀ (l1 : Option Nat) (l2 : Option Nat) (l3 : Option Nat) (l4 : Option Nat) (l5 : Int32) (σ : Tst) (H : Heap) (locs : List Loc) (ls : Array Slot), k28 l1 l2 l3 l4 l5 σ → tw_R G σ H → va_S (tw_A G) s.heap H locs → tw_l ls 9 [(0, .inr (some b)), (1, .inr l1), (2, .inr l2), (3, .inr l3), (4, .inr l4), (5, .inl l5)] → tw_W p l e room_1 s m #[Value.ref b] below meth c σ H locs (lw_Z below #[Value.ref b] s) (F0 m 28 ls [])) (l1 : Option Nat) (l2 : Option Nat) (l3 : Option Nat) (l4 : Option Nat) (l5 : Int32) (s0 : Int64) (s1 : Int64) (σ : Tst) (H : Heap) (locs : List Loc) (ls : Array Slot) (hw : w_L_law_b1624 b L xs k28 Q X l1 l2 l3 l4 l5 s0 s1 σ) (hR : tw_R G σ H) (hS : va_S (tw_A G) s.heap H locs) (hl : tw_l ls 9 [(0, .inr (some b)), (1, .inr l1), (2, .inr l2), (3, .inr l3), (4, .inr l4), (5, .inl l5)]) : tw_W p l e room_1 s m #[Value.ref b] below meth c σ H locs (lw_Z below #[Value.ref b] s) (F0 m 1624 ls [.long s1, .long s0]) := by
  unfold w_L_law_b1624 at hw
  refine tk_lcmp C dL_law_1624 ?_
  refine lv_if_eq (tgt := 1630) C.hx C.hb dL_law_1625 (by decide) (fun c1625 => ?_) (fun c1625 => ?_)
  · replace hw := hw.1 c1625
    exact wk_L_law_b1630 C hr hmn hnx hfr hRl hk28 _ _ _ _ _ σ _ _ _ hw hR hS (tk_sub hl [0, 1, 2, 3, 4, 5] rfl)
  · replace hw := hw.2 c1625
    refine lv_iconst (v := 0) C.hx C.hb dL_law_1628 (by decide) ?_
    exact tw_lret C hS hr hmn dL_law_1629 hw
set_option maxHeartbeats 4000000 in
theorem wk_L_law_b1531  (C : tw_C p l room_1 s m #[Value.ref b] meth c G cL_law 9 x.cls) (hr : meth.sig.returnType = (some .boolean)) (hmn : lw_sc G b L xs s) (hnx : True) (hfr : room_1.frames = 8192) (hRl : room_1.locals = 104096) {Q : Int32 → Tst → Prop} {X : String → Nat → Tst → Prop}  {k28 : Option Nat → Option Nat → Option Nat → Option Nat → Int32 → Tst → Prop} (hk28 : ∀ (l1 : Option Nat) (l2 : Option Nat) (l3 : Option Nat) (l4 : Option Nat) (l5 : Int32) (σ : Tst) (H : Heap) (locs : List Loc) (ls : Array Slot), k28 l1 l2 l3 l4 l5 σ → tw_R G σ H → va_S (tw_A G) s.heap H locs → tw_l ls 9 [(0, .inr (some b)), (1, .inr l1), (2, .inr l2), (3, .inr l3), (4, .inr l4), (5, .inl l5)] → tw_W p l e room_1 s m #[Value.ref b] below meth c σ H locs (lw_Z below #[Value.ref b] s) (F0 m 28 ls [])) (l1 : Option Nat) (l2 : Option Nat) (l3 : Option Nat) (l4 : Option Nat) (l5 : Int32) (σ : Tst) (H : Heap) (locs : List Loc) (ls : Array Slot) (hw : w_L_law_b1531 b L xs k28 Q X l1 l2 l3 l4 l5 σ) (hR : tw_R G σ H) (hS : va_S (tw_A G) s.heap H locs) (hl : tw_l ls 9 [(0, .inr (some b)), (1, .inr l1), (2, .inr l2), (3, .inr l3), (4, .inr l4), (5, .inl l5)]) : tw_W p l e room_1 s m #[Value.ref b] below meth c σ H locs (lw_Z below #[Value.ref b] s) (F0 m 1531 ls []) := by
  unfold w_L_law_b1531 at hw
  refine lv_goto (tgt := 2650) C.hx C.hb dL_law_1531 (by decide) ?_
  exact wk_L_law_b2650 C hr hmn hnx hfr hRl hk28 _ _ _ _ _ σ _ _ _ hw hR hS (tk_sub hl [0, 1, 2, 3, 4, 5] rfl)
set_option maxHeartbeats 4000000 in
theorem wk_L_law_b1463  (C : tw_C p l room_1 s m #[Value.ref b] meth c G cL_law 9 x.cls) (hr : meth.sig.returnType = (some .boolean)) (hmn : lw_sc G b L xs s) (hnx : True) (hfr : room_1.frames = 8192) (hRl : room_1.locals = 104096) {Q : Int32 → Tst → Prop} {X : String → Nat → Tst → Prop}  {k28 : Option Nat → Option Nat → Option Nat → Option Nat → Int32 → Tst → Prop} (hk28 : ∀ (l1 : Option Nat) (l2 : Option Nat) (l3 : Option Nat) (l4 : Option Nat) (l5 : Int32) (σ : Tst) (H : Heap) (locs : List Loc) (ls : Array Slot), k28 l1 l2 l3 l4 l5 σ → tw_R G σ H → va_S (tw_A G) s.heap H locs → tw_l ls 9 [(0, .inr (some b)), (1, .inr l1), (2, .inr l2), (3, .inr l3), (4, .inr l4), (5, .inl l5)] → tw_W p l e room_1 s m #[Value.ref b] below meth c σ H locs (lw_Z below #[Value.ref b] s) (F0 m 28 ls [])) (l1 : Option Nat) (l2 : Option Nat) (l3 : Option Nat) (l4 : Option Nat) (l5 : Int32) (σ : Tst) (H : Heap) (locs : List Loc) (ls : Array Slot) (hw : w_L_law_b1463 b L xs k28 Q X l1 l2 l3 l4 l5 σ) (hR : tw_R G σ H) (hS : va_S (tw_A G) s.heap H locs) (hl : tw_l ls 9 [(0, .inr (some b)), (1, .inr l1), (2, .inr l2), (3, .inr l3), (4, .inr l4), (5, .inl l5)]) : tw_W p l e room_1 s m #[Value.ref b] below meth c σ H locs (lw_Z below #[Value.ref b] s) (F0 m 1463 ls []) := by
  unfold w_L_law_b1463 at hw
  refine lv_goto (tgt := 2650) C.hx C.hb dL_law_1463 (by decide) ?_
  exact wk_L_law_b2650 C hr hmn hnx hfr hRl hk28 _ _ _ _ _ σ _ _ _ hw hR hS (tk_sub hl [0, 1, 2, 3, 4, 5] rfl)
set_option maxHeartbeats 4000000 in
theorem wk_L_law_b1395  (C : tw_C p l room_1 s m #[Value.ref b] meth c G cL_law 9 x.cls) (hr : meth.sig.returnType = (some .boolean)) (hmn : lw_sc G b L xs s) (hnx : True) (hfr : room_1.frames = 8192) (hRl : room_1.locals = 104096) {Q : Int32 → Tst → Prop} {X : String → Nat → Tst → Prop}  {k28 : Option Nat → Option Nat → Option Nat → Option Nat → Int32 → Tst → Prop} (hk28 : ∀ (l1 : Option Nat) (l2 : Option Nat) (l3 : Option Nat) (l4 : Option Nat) (l5 : Int32) (σ : Tst) (H : Heap) (locs : List Loc) (ls : Array Slot), k28 l1 l2 l3 l4 l5 σ → tw_R G σ H → va_S (tw_A G) s.heap H locs → tw_l ls 9 [(0, .inr (some b)), (1, .inr l1), (2, .inr l2), (3, .inr l3), (4, .inr l4), (5, .inl l5)] → tw_W p l e room_1 s m #[Value.ref b] below meth c σ H locs (lw_Z below #[Value.ref b] s) (F0 m 28 ls [])) (l1 : Option Nat) (l2 : Option Nat) (l3 : Option Nat) (l4 : Option Nat) (l5 : Int32) (σ : Tst) (H : Heap) (locs : List Loc) (ls : Array Slot) (hw : w_L_law_b1395 b L xs k28 Q X l1 l2 l3 l4 l5 σ) (hR : tw_R G σ H) (hS : va_S (tw_A G) s.heap H locs) (hl : tw_l ls 9 [(0, .inr (some b)), (1, .inr l1), (2, .inr l2), (3, .inr l3), (4, .inr l4), (5, .inl l5)]) : tw_W p l e room_1 s m #[Value.ref b] below meth c σ H locs (lw_Z below #[Value.ref b] s) (F0 m 1395 ls []) := by
  unfold w_L_law_b1395 at hw
  refine lv_goto (tgt := 2650) C.hx C.hb dL_law_1395 (by decide) ?_
  exact wk_L_law_b2650 C hr hmn hnx hfr hRl hk28 _ _ _ _ _ σ _ _ _ hw hR hS (tk_sub hl [0, 1, 2, 3, 4, 5] rfl)
set_option maxHeartbeats 4000000 in
theorem wk_L_law_b1327  (C : tw_C p l room_1 s m #[Value.ref b] meth c G cL_law 9 x.cls) (hr : meth.sig.returnType = (some .boolean)) (hmn : lw_sc G b L xs s) (hnx : True) (hfr : room_1.frames = 8192) (hRl : room_1.locals = 104096) {Q : Int32 → Tst → Prop} {X : String → Nat → Tst → Prop}  {k28 : Option Nat → Option Nat → Option Nat → Option Nat → Int32 → Tst → Prop} (hk28 : ∀ (l1 : Option Nat) (l2 : Option Nat) (l3 : Option Nat) (l4 : Option Nat) (l5 : Int32) (σ : Tst) (H : Heap) (locs : List Loc) (ls : Array Slot), k28 l1 l2 l3 l4 l5 σ → tw_R G σ H → va_S (tw_A G) s.heap H locs → tw_l ls 9 [(0, .inr (some b)), (1, .inr l1), (2, .inr l2), (3, .inr l3), (4, .inr l4), (5, .inl l5)] → tw_W p l e room_1 s m #[Value.ref b] below meth c σ H locs (lw_Z below #[Value.ref b] s) (F0 m 28 ls [])) (l1 : Option Nat) (l2 : Option Nat) (l3 : Option Nat) (l4 : Option Nat) (l5 : Int32) (σ : Tst) (H : Heap) (locs : List Loc) (ls : Array Slot) (hw : w_L_law_b1327 b L xs k28 Q X l1 l2 l3 l4 l5 σ) (hR : tw_R G σ H) (hS : va_S (tw_A G) s.heap H locs) (hl : tw_l ls 9 [(0, .inr (some b)), (1, .inr l1), (2, .inr l2), (3, .inr l3), (4, .inr l4), (5, .inl l5)]) : tw_W p l e room_1 s m #[Value.ref b] below meth c σ H locs (lw_Z below #[Value.ref b] s) (F0 m 1327 ls []) := by
  unfold w_L_law_b1327 at hw
  refine lv_goto (tgt := 2650) C.hx C.hb dL_law_1327 (by decide) ?_
  exact wk_L_law_b2650 C hr hmn hnx hfr hRl hk28 _ _ _ _ _ σ _ _ _ hw hR hS (tk_sub hl [0, 1, 2, 3, 4, 5] rfl)
set_option maxHeartbeats 4000000 in
theorem wk_L_law_b1259  (C : tw_C p l room_1 s m #[Value.ref b] meth c G cL_law 9 x.cls) (hr : meth.sig.returnType = (some .boolean)) (hmn : lw_sc G b L xs s) (hnx : True) (hfr : room_1.frames = 8192) (hRl : room_1.locals = 104096) {Q : Int32 → Tst → Prop} {X : String → Nat → Tst → Prop}  {k28 : Option Nat → Option Nat → Option Nat → Option Nat → Int32 → Tst → Prop} (hk28 : ∀ (l1 : Option Nat) (l2 : Option Nat) (l3 : Option Nat) (l4 : Option Nat) (l5 : Int32) (σ : Tst) (H : Heap) (locs : List Loc) (ls : Array Slot), k28 l1 l2 l3 l4 l5 σ → tw_R G σ H → va_S (tw_A G) s.heap H locs → tw_l ls 9 [(0, .inr (some b)), (1, .inr l1), (2, .inr l2), (3, .inr l3), (4, .inr l4), (5, .inl l5)] → tw_W p l e room_1 s m #[Value.ref b] below meth c σ H locs (lw_Z below #[Value.ref b] s) (F0 m 28 ls [])) (l1 : Option Nat) (l2 : Option Nat) (l3 : Option Nat) (l4 : Option Nat) (l5 : Int32) (σ : Tst) (H : Heap) (locs : List Loc) (ls : Array Slot) (hw : w_L_law_b1259 b L xs k28 Q X l1 l2 l3 l4 l5 σ) (hR : tw_R G σ H) (hS : va_S (tw_A G) s.heap H locs) (hl : tw_l ls 9 [(0, .inr (some b)), (1, .inr l1), (2, .inr l2), (3, .inr l3), (4, .inr l4), (5, .inl l5)]) : tw_W p l e room_1 s m #[Value.ref b] below meth c σ H locs (lw_Z below #[Value.ref b] s) (F0 m 1259 ls []) := by
  unfold w_L_law_b1259 at hw
  refine lv_goto (tgt := 2650) C.hx C.hb dL_law_1259 (by decide) ?_
  exact wk_L_law_b2650 C hr hmn hnx hfr hRl hk28 _ _ _ _ _ σ _ _ _ hw hR hS (tk_sub hl [0, 1, 2, 3, 4, 5] rfl)
set_option maxHeartbeats 4000000 in
theorem wk_L_law_b1191  (C : tw_C p l room_1 s m #[Value.ref b] meth c G cL_law 9 x.cls) (hr : meth.sig.returnType = (some .boolean)) (hmn : lw_sc G b L xs s) (hnx : True) (hfr : room_1.frames = 8192) (hRl : room_1.locals = 104096) {Q : Int32 → Tst → Prop} {X : String → Nat → Tst → Prop}  {k28 : Option Nat → Option Nat → Option Nat → Option Nat → Int32 → Tst → Prop} (hk28 : ∀ (l1 : Option Nat) (l2 : Option Nat) (l3 : Option Nat) (l4 : Option Nat) (l5 : Int32) (σ : Tst) (H : Heap) (locs : List Loc) (ls : Array Slot), k28 l1 l2 l3 l4 l5 σ → tw_R G σ H → va_S (tw_A G) s.heap H locs → tw_l ls 9 [(0, .inr (some b)), (1, .inr l1), (2, .inr l2), (3, .inr l3), (4, .inr l4), (5, .inl l5)] → tw_W p l e room_1 s m #[Value.ref b] below meth c σ H locs (lw_Z below #[Value.ref b] s) (F0 m 28 ls [])) (l1 : Option Nat) (l2 : Option Nat) (l3 : Option Nat) (l4 : Option Nat) (l5 : Int32) (σ : Tst) (H : Heap) (locs : List Loc) (ls : Array Slot) (hw : w_L_law_b1191 b L xs k28 Q X l1 l2 l3 l4 l5 σ) (hR : tw_R G σ H) (hS : va_S (tw_A G) s.heap H locs) (hl : tw_l ls 9 [(0, .inr (some b)), (1, .inr l1), (2, .inr l2), (3, .inr l3), (4, .inr l4), (5, .inl l5)]) : tw_W p l e room_1 s m #[Value.ref b] below meth c σ H locs (lw_Z below #[Value.ref b] s) (F0 m 1191 ls []) := by
  unfold w_L_law_b1191 at hw
  refine lv_goto (tgt := 2650) C.hx C.hb dL_law_1191 (by decide) ?_
  exact wk_L_law_b2650 C hr hmn hnx hfr hRl hk28 _ _ _ _ _ σ _ _ _ hw hR hS (tk_sub hl [0, 1, 2, 3, 4, 5] rfl)
set_option maxHeartbeats 4000000 in
theorem wk_L_law_b1123  (C : tw_C p l room_1 s m #[Value.ref b] meth c G cL_law 9 x.cls) (hr : meth.sig.returnType = (some .boolean)) (hmn : lw_sc G b L xs s) (hnx : True) (hfr : room_1.frames = 8192) (hRl : room_1.locals = 104096) {Q : Int32 → Tst → Prop} {X : String → Nat → Tst → Prop}  {k28 : Option Nat → Option Nat → Option Nat → Option Nat → Int32 → Tst → Prop} (hk28 : ∀ (l1 : Option Nat) (l2 : Option Nat) (l3 : Option Nat) (l4 : Option Nat) (l5 : Int32) (σ : Tst) (H : Heap) (locs : List Loc) (ls : Array Slot), k28 l1 l2 l3 l4 l5 σ → tw_R G σ H → va_S (tw_A G) s.heap H locs → tw_l ls 9 [(0, .inr (some b)), (1, .inr l1), (2, .inr l2), (3, .inr l3), (4, .inr l4), (5, .inl l5)] → tw_W p l e room_1 s m #[Value.ref b] below meth c σ H locs (lw_Z below #[Value.ref b] s) (F0 m 28 ls [])) (l1 : Option Nat) (l2 : Option Nat) (l3 : Option Nat) (l4 : Option Nat) (l5 : Int32) (σ : Tst) (H : Heap) (locs : List Loc) (ls : Array Slot) (hw : w_L_law_b1123 b L xs k28 Q X l1 l2 l3 l4 l5 σ) (hR : tw_R G σ H) (hS : va_S (tw_A G) s.heap H locs) (hl : tw_l ls 9 [(0, .inr (some b)), (1, .inr l1), (2, .inr l2), (3, .inr l3), (4, .inr l4), (5, .inl l5)]) : tw_W p l e room_1 s m #[Value.ref b] below meth c σ H locs (lw_Z below #[Value.ref b] s) (F0 m 1123 ls []) := by
  unfold w_L_law_b1123 at hw
  refine lv_goto (tgt := 2650) C.hx C.hb dL_law_1123 (by decide) ?_
  exact wk_L_law_b2650 C hr hmn hnx hfr hRl hk28 _ _ _ _ _ σ _ _ _ hw hR hS (tk_sub hl [0, 1, 2, 3, 4, 5] rfl)
set_option maxHeartbeats 4000000 in
theorem wk_L_law_b1055  (C : tw_C p l room_1 s m #[Value.ref b] meth c G cL_law 9 x.cls) (hr : meth.sig.returnType = (some .boolean)) (hmn : lw_sc G b L xs s) (hnx : True) (hfr : room_1.frames = 8192) (hRl : room_1.locals = 104096) {Q : Int32 → Tst → Prop} {X : String → Nat → Tst → Prop}  {k28 : Option Nat → Option Nat → Option Nat → Option Nat → Int32 → Tst → Prop} (hk28 : ∀ (l1 : Option Nat) (l2 : Option Nat) (l3 : Option Nat) (l4 : Option Nat) (l5 : Int32) (σ : Tst) (H : Heap) (locs : List Loc) (ls : Array Slot), k28 l1 l2 l3 l4 l5 σ → tw_R G σ H → va_S (tw_A G) s.heap H locs → tw_l ls 9 [(0, .inr (some b)), (1, .inr l1), (2, .inr l2), (3, .inr l3), (4, .inr l4), (5, .inl l5)] → tw_W p l e room_1 s m #[Value.ref b] below meth c σ H locs (lw_Z below #[Value.ref b] s) (F0 m 28 ls [])) (l1 : Option Nat) (l2 : Option Nat) (l3 : Option Nat) (l4 : Option Nat) (l5 : Int32) (σ : Tst) (H : Heap) (locs : List Loc) (ls : Array Slot) (hw : w_L_law_b1055 b L xs k28 Q X l1 l2 l3 l4 l5 σ) (hR : tw_R G σ H) (hS : va_S (tw_A G) s.heap H locs) (hl : tw_l ls 9 [(0, .inr (some b)), (1, .inr l1), (2, .inr l2), (3, .inr l3), (4, .inr l4), (5, .inl l5)]) : tw_W p l e room_1 s m #[Value.ref b] below meth c σ H locs (lw_Z below #[Value.ref b] s) (F0 m 1055 ls []) := by
  unfold w_L_law_b1055 at hw
  refine lv_goto (tgt := 2650) C.hx C.hb dL_law_1055 (by decide) ?_
  exact wk_L_law_b2650 C hr hmn hnx hfr hRl hk28 _ _ _ _ _ σ _ _ _ hw hR hS (tk_sub hl [0, 1, 2, 3, 4, 5] rfl)
set_option maxHeartbeats 4000000 in
theorem wk_L_law_b999  (C : tw_C p l room_1 s m #[Value.ref b] meth c G cL_law 9 x.cls) (hr : meth.sig.returnType = (some .boolean)) (hmn : lw_sc G b L xs s) (hnx : True) (hfr : room_1.frames = 8192) (hRl : room_1.locals = 104096) {Q : Int32 → Tst → Prop} {X : String → Nat → Tst → Prop}  {k28 : Option Nat → Option Nat → Option Nat → Option Nat → Int32 → Tst → Prop} (hk28 : ∀ (l1 : Option Nat) (l2 : Option Nat) (l3 : Option Nat) (l4 : Option Nat) (l5 : Int32) (σ : Tst) (H : Heap) (locs : List Loc) (ls : Array Slot), k28 l1 l2 l3 l4 l5 σ → tw_R G σ H → va_S (tw_A G) s.heap H locs → tw_l ls 9 [(0, .inr (some b)), (1, .inr l1), (2, .inr l2), (3, .inr l3), (4, .inr l4), (5, .inl l5)] → tw_W p l e room_1 s m #[Value.ref b] below meth c σ H locs (lw_Z below #[Value.ref b] s) (F0 m 28 ls [])) (l1 : Option Nat) (l2 : Option Nat) (l3 : Option Nat) (l4 : Option Nat) (l5 : Int32) (σ : Tst) (H : Heap) (locs : List Loc) (ls : Array Slot) (hw : w_L_law_b999 b L xs k28 Q X l1 l2 l3 l4 l5 σ) (hR : tw_R G σ H) (hS : va_S (tw_A G) s.heap H locs) (hl : tw_l ls 9 [(0, .inr (some b)), (1, .inr l1), (2, .inr l2), (3, .inr l3), (4, .inr l4), (5, .inl l5)]) : tw_W p l e room_1 s m #[Value.ref b] below meth c σ H locs (lw_Z below #[Value.ref b] s) (F0 m 999 ls []) := by
  unfold w_L_law_b999 at hw
  refine lv_goto (tgt := 2650) C.hx C.hb dL_law_999 (by decide) ?_
  exact wk_L_law_b2650 C hr hmn hnx hfr hRl hk28 _ _ _ _ _ σ _ _ _ hw hR hS (tk_sub hl [0, 1, 2, 3, 4, 5] rfl)
set_option maxHeartbeats 4000000 in
theorem wk_L_law_b931  (C : tw_C p l room_1 s m #[Value.ref b] meth c G cL_law 9 x.cls) (hr : meth.sig.returnType = (some .boolean)) (hmn : lw_sc G b L xs s) (hnx : True) (hfr : room_1.frames = 8192) (hRl : room_1.locals = 104096) {Q : Int32 → Tst → Prop} {X : String → Nat → Tst → Prop}  {k28 : Option Nat → Option Nat → Option Nat → Option Nat → Int32 → Tst → Prop} (hk28 : ∀ (l1 : Option Nat) (l2 : Option Nat) (l3 : Option Nat) (l4 : Option Nat) (l5 : Int32) (σ : Tst) (H : Heap) (locs : List Loc) (ls : Array Slot), k28 l1 l2 l3 l4 l5 σ → tw_R G σ H → va_S (tw_A G) s.heap H locs → tw_l ls 9 [(0, .inr (some b)), (1, .inr l1), (2, .inr l2), (3, .inr l3), (4, .inr l4), (5, .inl l5)] → tw_W p l e room_1 s m #[Value.ref b] below meth c σ H locs (lw_Z below #[Value.ref b] s) (F0 m 28 ls [])) (l1 : Option Nat) (l2 : Option Nat) (l3 : Option Nat) (l4 : Option Nat) (l5 : Int32) (σ : Tst) (H : Heap) (locs : List Loc) (ls : Array Slot) (hw : w_L_law_b931 b L xs k28 Q X l1 l2 l3 l4 l5 σ) (hR : tw_R G σ H) (hS : va_S (tw_A G) s.heap H locs) (hl : tw_l ls 9 [(0, .inr (some b)), (1, .inr l1), (2, .inr l2), (3, .inr l3), (4, .inr l4), (5, .inl l5)]) : tw_W p l e room_1 s m #[Value.ref b] below meth c σ H locs (lw_Z below #[Value.ref b] s) (F0 m 931 ls []) := by
  unfold w_L_law_b931 at hw
  refine lv_goto (tgt := 2650) C.hx C.hb dL_law_931 (by decide) ?_
  exact wk_L_law_b2650 C hr hmn hnx hfr hRl hk28 _ _ _ _ _ σ _ _ _ hw hR hS (tk_sub hl [0, 1, 2, 3, 4, 5] rfl)
set_option maxHeartbeats 4000000 in
theorem wk_L_law_b851  (C : tw_C p l room_1 s m #[Value.ref b] meth c G cL_law 9 x.cls) (hr : meth.sig.returnType = (some .boolean)) (hmn : lw_sc G b L xs s) (hnx : True) (hfr : room_1.frames = 8192) (hRl : room_1.locals = 104096) {Q : Int32 → Tst → Prop} {X : String → Nat → Tst → Prop}  {k28 : Option Nat → Option Nat → Option Nat → Option Nat → Int32 → Tst → Prop} (hk28 : ∀ (l1 : Option Nat) (l2 : Option Nat) (l3 : Option Nat) (l4 : Option Nat) (l5 : Int32) (σ : Tst) (H : Heap) (locs : List Loc) (ls : Array Slot), k28 l1 l2 l3 l4 l5 σ → tw_R G σ H → va_S (tw_A G) s.heap H locs → tw_l ls 9 [(0, .inr (some b)), (1, .inr l1), (2, .inr l2), (3, .inr l3), (4, .inr l4), (5, .inl l5)] → tw_W p l e room_1 s m #[Value.ref b] below meth c σ H locs (lw_Z below #[Value.ref b] s) (F0 m 28 ls [])) (l1 : Option Nat) (l2 : Option Nat) (l3 : Option Nat) (l4 : Option Nat) (l5 : Int32) (σ : Tst) (H : Heap) (locs : List Loc) (ls : Array Slot) (hw : w_L_law_b851 b L xs k28 Q X l1 l2 l3 l4 l5 σ) (hR : tw_R G σ H) (hS : va_S (tw_A G) s.heap H locs) (hl : tw_l ls 9 [(0, .inr (some b)), (1, .inr l1), (2, .inr l2), (3, .inr l3), (4, .inr l4), (5, .inl l5)]) : tw_W p l e room_1 s m #[Value.ref b] below meth c σ H locs (lw_Z below #[Value.ref b] s) (F0 m 851 ls []) := by
  unfold w_L_law_b851 at hw
  refine lv_goto (tgt := 2650) C.hx C.hb dL_law_851 (by decide) ?_
  exact wk_L_law_b2650 C hr hmn hnx hfr hRl hk28 _ _ _ _ _ σ _ _ _ hw hR hS (tk_sub hl [0, 1, 2, 3, 4, 5] rfl)
set_option maxHeartbeats 4000000 in
theorem wk_L_law_b771  (C : tw_C p l room_1 s m #[Value.ref b] meth c G cL_law 9 x.cls) (hr : meth.sig.returnType = (some .boolean)) (hmn : lw_sc G b L xs s) (hnx : True) (hfr : room_1.frames = 8192) (hRl : room_1.locals = 104096) {Q : Int32 → Tst → Prop} {X : String → Nat → Tst → Prop}  {k28 : Option Nat → Option Nat → Option Nat → Option Nat → Int32 → Tst → Prop} (hk28 : ∀ (l1 : Option Nat) (l2 : Option Nat) (l3 : Option Nat) (l4 : Option Nat) (l5 : Int32) (σ : Tst) (H : Heap) (locs : List Loc) (ls : Array Slot), k28 l1 l2 l3 l4 l5 σ → tw_R G σ H → va_S (tw_A G) s.heap H locs → tw_l ls 9 [(0, .inr (some b)), (1, .inr l1), (2, .inr l2), (3, .inr l3), (4, .inr l4), (5, .inl l5)] → tw_W p l e room_1 s m #[Value.ref b] below meth c σ H locs (lw_Z below #[Value.ref b] s) (F0 m 28 ls [])) (l1 : Option Nat) (l2 : Option Nat) (l3 : Option Nat) (l4 : Option Nat) (l5 : Int32) (σ : Tst) (H : Heap) (locs : List Loc) (ls : Array Slot) (hw : w_L_law_b771 b L xs k28 Q X l1 l2 l3 l4 l5 σ) (hR : tw_R G σ H) (hS : va_S (tw_A G) s.heap H locs) (hl : tw_l ls 9 [(0, .inr (some b)), (1, .inr l1), (2, .inr l2), (3, .inr l3), (4, .inr l4), (5, .inl l5)]) : tw_W p l e room_1 s m #[Value.ref b] below meth c σ H locs (lw_Z below #[Value.ref b] s) (F0 m 771 ls []) := by
  unfold w_L_law_b771 at hw
  refine lv_goto (tgt := 2650) C.hx C.hb dL_law_771 (by decide) ?_
  exact wk_L_law_b2650 C hr hmn hnx hfr hRl hk28 _ _ _ _ _ σ _ _ _ hw hR hS (tk_sub hl [0, 1, 2, 3, 4, 5] rfl)
set_option maxHeartbeats 4000000 in
theorem wk_L_law_b689  (C : tw_C p l room_1 s m #[Value.ref b] meth c G cL_law 9 x.cls) (hr : meth.sig.returnType = (some .boolean)) (hmn : lw_sc G b L xs s) (hnx : True) (hfr : room_1.frames = 8192) (hRl : room_1.locals = 104096) {Q : Int32 → Tst → Prop} {X : String → Nat → Tst → Prop}  {k28 : Option Nat → Option Nat → Option Nat → Option Nat → Int32 → Tst → Prop} (hk28 : ∀ (l1 : Option Nat) (l2 : Option Nat) (l3 : Option Nat) (l4 : Option Nat) (l5 : Int32) (σ : Tst) (H : Heap) (locs : List Loc) (ls : Array Slot), k28 l1 l2 l3 l4 l5 σ → tw_R G σ H → va_S (tw_A G) s.heap H locs → tw_l ls 9 [(0, .inr (some b)), (1, .inr l1), (2, .inr l2), (3, .inr l3), (4, .inr l4), (5, .inl l5)] → tw_W p l e room_1 s m #[Value.ref b] below meth c σ H locs (lw_Z below #[Value.ref b] s) (F0 m 28 ls [])) (l1 : Option Nat) (l2 : Option Nat) (l3 : Option Nat) (l4 : Option Nat) (l5 : Int32) (σ : Tst) (H : Heap) (locs : List Loc) (ls : Array Slot) (hw : w_L_law_b689 b L xs k28 Q X l1 l2 l3 l4 l5 σ) (hR : tw_R G σ H) (hS : va_S (tw_A G) s.heap H locs) (hl : tw_l ls 9 [(0, .inr (some b)), (1, .inr l1), (2, .inr l2), (3, .inr l3), (4, .inr l4), (5, .inl l5)]) : tw_W p l e room_1 s m #[Value.ref b] below meth c σ H locs (lw_Z below #[Value.ref b] s) (F0 m 689 ls []) := by
  unfold w_L_law_b689 at hw
  refine lv_goto (tgt := 2650) C.hx C.hb dL_law_689 (by decide) ?_
  exact wk_L_law_b2650 C hr hmn hnx hfr hRl hk28 _ _ _ _ _ σ _ _ _ hw hR hS (tk_sub hl [0, 1, 2, 3, 4, 5] rfl)
set_option maxHeartbeats 4000000 in
theorem wk_L_law_b621  (C : tw_C p l room_1 s m #[Value.ref b] meth c G cL_law 9 x.cls) (hr : meth.sig.returnType = (some .boolean)) (hmn : lw_sc G b L xs s) (hnx : True) (hfr : room_1.frames = 8192) (hRl : room_1.locals = 104096) {Q : Int32 → Tst → Prop} {X : String → Nat → Tst → Prop}  {k28 : Option Nat → Option Nat → Option Nat → Option Nat → Int32 → Tst → Prop} (hk28 : ∀ (l1 : Option Nat) (l2 : Option Nat) (l3 : Option Nat) (l4 : Option Nat) (l5 : Int32) (σ : Tst) (H : Heap) (locs : List Loc) (ls : Array Slot), k28 l1 l2 l3 l4 l5 σ → tw_R G σ H → va_S (tw_A G) s.heap H locs → tw_l ls 9 [(0, .inr (some b)), (1, .inr l1), (2, .inr l2), (3, .inr l3), (4, .inr l4), (5, .inl l5)] → tw_W p l e room_1 s m #[Value.ref b] below meth c σ H locs (lw_Z below #[Value.ref b] s) (F0 m 28 ls [])) (l1 : Option Nat) (l2 : Option Nat) (l3 : Option Nat) (l4 : Option Nat) (l5 : Int32) (σ : Tst) (H : Heap) (locs : List Loc) (ls : Array Slot) (hw : w_L_law_b621 b L xs k28 Q X l1 l2 l3 l4 l5 σ) (hR : tw_R G σ H) (hS : va_S (tw_A G) s.heap H locs) (hl : tw_l ls 9 [(0, .inr (some b)), (1, .inr l1), (2, .inr l2), (3, .inr l3), (4, .inr l4), (5, .inl l5)]) : tw_W p l e room_1 s m #[Value.ref b] below meth c σ H locs (lw_Z below #[Value.ref b] s) (F0 m 621 ls []) := by
  unfold w_L_law_b621 at hw
  refine lv_goto (tgt := 2650) C.hx C.hb dL_law_621 (by decide) ?_
  exact wk_L_law_b2650 C hr hmn hnx hfr hRl hk28 _ _ _ _ _ σ _ _ _ hw hR hS (tk_sub hl [0, 1, 2, 3, 4, 5] rfl)
set_option maxHeartbeats 4000000 in
theorem wk_L_law_b527  (C : tw_C p l room_1 s m #[Value.ref b] meth c G cL_law 9 x.cls) (hr : meth.sig.returnType = (some .boolean)) (hmn : lw_sc G b L xs s) (hnx : True) (hfr : room_1.frames = 8192) (hRl : room_1.locals = 104096) {Q : Int32 → Tst → Prop} {X : String → Nat → Tst → Prop}  {k28 : Option Nat → Option Nat → Option Nat → Option Nat → Int32 → Tst → Prop} (hk28 : ∀ (l1 : Option Nat) (l2 : Option Nat) (l3 : Option Nat) (l4 : Option Nat) (l5 : Int32) (σ : Tst) (H : Heap) (locs : List Loc) (ls : Array Slot), k28 l1 l2 l3 l4 l5 σ → tw_R G σ H → va_S (tw_A G) s.heap H locs → tw_l ls 9 [(0, .inr (some b)), (1, .inr l1), (2, .inr l2), (3, .inr l3), (4, .inr l4), (5, .inl l5)] → tw_W p l e room_1 s m #[Value.ref b] below meth c σ H locs (lw_Z below #[Value.ref b] s) (F0 m 28 ls [])) (l1 : Option Nat) (l2 : Option Nat) (l3 : Option Nat) (l4 : Option Nat) (l5 : Int32) (σ : Tst) (H : Heap) (locs : List Loc) (ls : Array Slot) (hw : w_L_law_b527 b L xs k28 Q X l1 l2 l3 l4 l5 σ) (hR : tw_R G σ H) (hS : va_S (tw_A G) s.heap H locs) (hl : tw_l ls 9 [(0, .inr (some b)), (1, .inr l1), (2, .inr l2), (3, .inr l3), (4, .inr l4), (5, .inl l5)]) : tw_W p l e room_1 s m #[Value.ref b] below meth c σ H locs (lw_Z below #[Value.ref b] s) (F0 m 527 ls []) := by
  unfold w_L_law_b527 at hw
  refine lv_goto (tgt := 2650) C.hx C.hb dL_law_527 (by decide) ?_
  exact wk_L_law_b2650 C hr hmn hnx hfr hRl hk28 _ _ _ _ _ σ _ _ _ hw hR hS (tk_sub hl [0, 1, 2, 3, 4, 5] rfl)
set_option maxHeartbeats 4000000 in
theorem wk_L_law_b471  (C : tw_C p l room_1 s m #[Value.ref b] meth c G cL_law 9 x.cls) (hr : meth.sig.returnType = (some .boolean)) (hmn : lw_sc G b L xs s) (hnx : True) (hfr : room_1.frames = 8192) (hRl : room_1.locals = 104096) {Q : Int32 → Tst → Prop} {X : String → Nat → Tst → Prop}  {k28 : Option Nat → Option Nat → Option Nat → Option Nat → Int32 → Tst → Prop} (hk28 : ∀ (l1 : Option Nat) (l2 : Option Nat) (l3 : Option Nat) (l4 : Option Nat) (l5 : Int32) (σ : Tst) (H : Heap) (locs : List Loc) (ls : Array Slot), k28 l1 l2 l3 l4 l5 σ → tw_R G σ H → va_S (tw_A G) s.heap H locs → tw_l ls 9 [(0, .inr (some b)), (1, .inr l1), (2, .inr l2), (3, .inr l3), (4, .inr l4), (5, .inl l5)] → tw_W p l e room_1 s m #[Value.ref b] below meth c σ H locs (lw_Z below #[Value.ref b] s) (F0 m 28 ls [])) (l1 : Option Nat) (l2 : Option Nat) (l3 : Option Nat) (l4 : Option Nat) (l5 : Int32) (σ : Tst) (H : Heap) (locs : List Loc) (ls : Array Slot) (hw : w_L_law_b471 b L xs k28 Q X l1 l2 l3 l4 l5 σ) (hR : tw_R G σ H) (hS : va_S (tw_A G) s.heap H locs) (hl : tw_l ls 9 [(0, .inr (some b)), (1, .inr l1), (2, .inr l2), (3, .inr l3), (4, .inr l4), (5, .inl l5)]) : tw_W p l e room_1 s m #[Value.ref b] below meth c σ H locs (lw_Z below #[Value.ref b] s) (F0 m 471 ls []) := by
  unfold w_L_law_b471 at hw
  refine lv_goto (tgt := 2650) C.hx C.hb dL_law_471 (by decide) ?_
  exact wk_L_law_b2650 C hr hmn hnx hfr hRl hk28 _ _ _ _ _ σ _ _ _ hw hR hS (tk_sub hl [0, 1, 2, 3, 4, 5] rfl)
set_option maxHeartbeats 4000000 in
theorem wk_L_law_b427  (C : tw_C p l room_1 s m #[Value.ref b] meth c G cL_law 9 x.cls) (hr : meth.sig.returnType = (some .boolean)) (hmn : lw_sc G b L xs s) (hnx : True) (hfr : room_1.frames = 8192) (hRl : room_1.locals = 104096) {Q : Int32 → Tst → Prop} {X : String → Nat → Tst → Prop}  {k28 : Option Nat → Option Nat → Option Nat → Option Nat → Int32 → Tst → Prop} (hk28 : ∀ (l1 : Option Nat) (l2 : Option Nat) (l3 : Option Nat) (l4 : Option Nat) (l5 : Int32) (σ : Tst) (H : Heap) (locs : List Loc) (ls : Array Slot), k28 l1 l2 l3 l4 l5 σ → tw_R G σ H → va_S (tw_A G) s.heap H locs → tw_l ls 9 [(0, .inr (some b)), (1, .inr l1), (2, .inr l2), (3, .inr l3), (4, .inr l4), (5, .inl l5)] → tw_W p l e room_1 s m #[Value.ref b] below meth c σ H locs (lw_Z below #[Value.ref b] s) (F0 m 28 ls [])) (l1 : Option Nat) (l2 : Option Nat) (l3 : Option Nat) (l4 : Option Nat) (l5 : Int32) (σ : Tst) (H : Heap) (locs : List Loc) (ls : Array Slot) (hw : w_L_law_b427 b L xs k28 Q X l1 l2 l3 l4 l5 σ) (hR : tw_R G σ H) (hS : va_S (tw_A G) s.heap H locs) (hl : tw_l ls 9 [(0, .inr (some b)), (1, .inr l1), (2, .inr l2), (3, .inr l3), (4, .inr l4), (5, .inl l5)]) : tw_W p l e room_1 s m #[Value.ref b] below meth c σ H locs (lw_Z below #[Value.ref b] s) (F0 m 427 ls []) := by
  unfold w_L_law_b427 at hw
  refine lv_goto (tgt := 2650) C.hx C.hb dL_law_427 (by decide) ?_
  exact wk_L_law_b2650 C hr hmn hnx hfr hRl hk28 _ _ _ _ _ σ _ _ _ hw hR hS (tk_sub hl [0, 1, 2, 3, 4, 5] rfl)
set_option maxHeartbeats 4000000 in
theorem wk_L_law_b371  (C : tw_C p l room_1 s m #[Value.ref b] meth c G cL_law 9 x.cls) (hr : meth.sig.returnType = (some .boolean)) (hmn : lw_sc G b L xs s) (hnx : True) (hfr : room_1.frames = 8192) (hRl : room_1.locals = 104096) {Q : Int32 → Tst → Prop} {X : String → Nat → Tst → Prop}  {k28 : Option Nat → Option Nat → Option Nat → Option Nat → Int32 → Tst → Prop} (hk28 : ∀ (l1 : Option Nat) (l2 : Option Nat) (l3 : Option Nat) (l4 : Option Nat) (l5 : Int32) (σ : Tst) (H : Heap) (locs : List Loc) (ls : Array Slot), k28 l1 l2 l3 l4 l5 σ → tw_R G σ H → va_S (tw_A G) s.heap H locs → tw_l ls 9 [(0, .inr (some b)), (1, .inr l1), (2, .inr l2), (3, .inr l3), (4, .inr l4), (5, .inl l5)] → tw_W p l e room_1 s m #[Value.ref b] below meth c σ H locs (lw_Z below #[Value.ref b] s) (F0 m 28 ls [])) (l1 : Option Nat) (l2 : Option Nat) (l3 : Option Nat) (l4 : Option Nat) (l5 : Int32) (σ : Tst) (H : Heap) (locs : List Loc) (ls : Array Slot) (hw : w_L_law_b371 b L xs k28 Q X l1 l2 l3 l4 l5 σ) (hR : tw_R G σ H) (hS : va_S (tw_A G) s.heap H locs) (hl : tw_l ls 9 [(0, .inr (some b)), (1, .inr l1), (2, .inr l2), (3, .inr l3), (4, .inr l4), (5, .inl l5)]) : tw_W p l e room_1 s m #[Value.ref b] below meth c σ H locs (lw_Z below #[Value.ref b] s) (F0 m 371 ls []) := by
  unfold w_L_law_b371 at hw
  refine lv_goto (tgt := 2650) C.hx C.hb dL_law_371 (by decide) ?_
  exact wk_L_law_b2650 C hr hmn hnx hfr hRl hk28 _ _ _ _ _ σ _ _ _ hw hR hS (tk_sub hl [0, 1, 2, 3, 4, 5] rfl)
set_option maxHeartbeats 4000000 in
theorem wk_L_law_b327  (C : tw_C p l room_1 s m #[Value.ref b] meth c G cL_law 9 x.cls) (hr : meth.sig.returnType = (some .boolean)) (hmn : lw_sc G b L xs s) (hnx : True) (hfr : room_1.frames = 8192) (hRl : room_1.locals = 104096) {Q : Int32 → Tst → Prop} {X : String → Nat → Tst → Prop}  {k28 : Option Nat → Option Nat → Option Nat → Option Nat → Int32 → Tst → Prop} (hk28 : ∀ (l1 : Option Nat) (l2 : Option Nat) (l3 : Option Nat) (l4 : Option Nat) (l5 : Int32) (σ : Tst) (H : Heap) (locs : List Loc) (ls : Array Slot), k28 l1 l2 l3 l4 l5 σ → tw_R G σ H → va_S (tw_A G) s.heap H locs → tw_l ls 9 [(0, .inr (some b)), (1, .inr l1), (2, .inr l2), (3, .inr l3), (4, .inr l4), (5, .inl l5)] → tw_W p l e room_1 s m #[Value.ref b] below meth c σ H locs (lw_Z below #[Value.ref b] s) (F0 m 28 ls [])) (l1 : Option Nat) (l2 : Option Nat) (l3 : Option Nat) (l4 : Option Nat) (l5 : Int32) (σ : Tst) (H : Heap) (locs : List Loc) (ls : Array Slot) (hw : w_L_law_b327 b L xs k28 Q X l1 l2 l3 l4 l5 σ) (hR : tw_R G σ H) (hS : va_S (tw_A G) s.heap H locs) (hl : tw_l ls 9 [(0, .inr (some b)), (1, .inr l1), (2, .inr l2), (3, .inr l3), (4, .inr l4), (5, .inl l5)]) : tw_W p l e room_1 s m #[Value.ref b] below meth c σ H locs (lw_Z below #[Value.ref b] s) (F0 m 327 ls []) := by
  unfold w_L_law_b327 at hw
  refine lv_goto (tgt := 2650) C.hx C.hb dL_law_327 (by decide) ?_
  exact wk_L_law_b2650 C hr hmn hnx hfr hRl hk28 _ _ _ _ _ σ _ _ _ hw hR hS (tk_sub hl [0, 1, 2, 3, 4, 5] rfl)
set_option maxHeartbeats 4000000 in
theorem wk_L_law_b271  (C : tw_C p l room_1 s m #[Value.ref b] meth c G cL_law 9 x.cls) (hr : meth.sig.returnType = (some .boolean)) (hmn : lw_sc G b L xs s) (hnx : True) (hfr : room_1.frames = 8192) (hRl : room_1.locals = 104096) {Q : Int32 → Tst → Prop} {X : String → Nat → Tst → Prop}  {k28 : Option Nat → Option Nat → Option Nat → Option Nat → Int32 → Tst → Prop} (hk28 : ∀ (l1 : Option Nat) (l2 : Option Nat) (l3 : Option Nat) (l4 : Option Nat) (l5 : Int32) (σ : Tst) (H : Heap) (locs : List Loc) (ls : Array Slot), k28 l1 l2 l3 l4 l5 σ → tw_R G σ H → va_S (tw_A G) s.heap H locs → tw_l ls 9 [(0, .inr (some b)), (1, .inr l1), (2, .inr l2), (3, .inr l3), (4, .inr l4), (5, .inl l5)] → tw_W p l e room_1 s m #[Value.ref b] below meth c σ H locs (lw_Z below #[Value.ref b] s) (F0 m 28 ls [])) (l1 : Option Nat) (l2 : Option Nat) (l3 : Option Nat) (l4 : Option Nat) (l5 : Int32) (σ : Tst) (H : Heap) (locs : List Loc) (ls : Array Slot) (hw : w_L_law_b271 b L xs k28 Q X l1 l2 l3 l4 l5 σ) (hR : tw_R G σ H) (hS : va_S (tw_A G) s.heap H locs) (hl : tw_l ls 9 [(0, .inr (some b)), (1, .inr l1), (2, .inr l2), (3, .inr l3), (4, .inr l4), (5, .inl l5)]) : tw_W p l e room_1 s m #[Value.ref b] below meth c σ H locs (lw_Z below #[Value.ref b] s) (F0 m 271 ls []) := by
  unfold w_L_law_b271 at hw
  refine lv_goto (tgt := 2650) C.hx C.hb dL_law_271 (by decide) ?_
  exact wk_L_law_b2650 C hr hmn hnx hfr hRl hk28 _ _ _ _ _ σ _ _ _ hw hR hS (tk_sub hl [0, 1, 2, 3, 4, 5] rfl)
set_option maxHeartbeats 4000000 in
theorem wk_L_law_b28  (C : tw_C p l room_1 s m #[Value.ref b] meth c G cL_law 9 x.cls) (hr : meth.sig.returnType = (some .boolean)) (hmn : lw_sc G b L xs s) (hnx : True) (hfr : room_1.frames = 8192) (hRl : room_1.locals = 104096) {Q : Int32 → Tst → Prop} {X : String → Nat → Tst → Prop}  : ∀ (n : Nat) (l1 : Option Nat) (l2 : Option Nat) (l3 : Option Nat) (l4 : Option Nat) (l5 : Int32) (σ : Tst) (H : Heap) (locs : List Loc) (ls : Array Slot), w_L_law_b28 b L xs Q X n l1 l2 l3 l4 l5 σ → tw_R G σ H → va_S (tw_A G) s.heap H locs → tw_l ls 9 [(0, .inr (some b)), (1, .inr l1), (2, .inr l2), (3, .inr l3), (4, .inr l4), (5, .inl l5)] → tw_W p l e room_1 s m #[Value.ref b] below meth c σ H locs (lw_Z below #[Value.ref b] s) (F0 m 28 ls []) := by
  intro n
  induction n with
  | zero => intro l1 l2 l3 l4 l5 σ H locs ls hw; exact False.elim hw
  | succ n hk28 =>
    intro l1 l2 l3 l4 l5 σ H locs ls hw hR hS hl
    rw [w_L_law_b28] at hw
    refine tk_iload C hl 5 dL_law_28 rfl ?_
    refine tk_aload_n C hl 0 dL_law_30 rfl ?_
    refine tk_xn C hmn hS dL_law_31 ?_
    refine lv_iconst (v := 5) C.hx C.hb dL_law_32 (by decide) ?_
    refine lv_isub C.hx C.hb dL_law_33 ?_
    refine lv_icmp_gt (tgt := 2656) C.hx C.hb dL_law_34 (by decide) (fun c34 => ?_) (fun c34 => ?_)
    · replace hw := hw.1 c34
      refine lv_iconst (v := 1) C.hx C.hb dL_law_2656 (by decide) ?_
      exact tw_lret C hS hr hmn dL_law_2657 hw
    · replace hw := hw.2 c34
      refine tk_aload_n C hl 0 dL_law_37 rfl ?_
      refine tk_iload C hl 5 dL_law_38 rfl ?_
      refine tk_xl C hmn hS hw dL_law_40 (fun x1 hw => ?_)
      refine lv_bipush (v := 63) C.hx C.hb dL_law_41 (by decide) ?_
      refine lv_iand C.hx C.hb dL_law_43 ?_
      by_cases c44_0 : (x1 &&& 63) = 0
      · replace hw := hw.1 c44_0
        refine lv_tableIn (tgt := 216) (off := 172) C.hx C.hb dL_law_44 (by rw [c44_0]; decide) (by rw [c44_0]; decide) (by rw [c44_0]; rfl) (by decide) ?_
        refine tk_aload_n C hl 1 dL_law_216 rfl ?_
        refine tk_aload_n C hl 0 dL_law_217 rfl ?_
        refine tk_iload C hl 5 dL_law_218 rfl ?_
        refine lv_iconst (v := 1) C.hx C.hb dL_law_220 (by decide) ?_
        refine lv_iadd C.hx C.hb dL_law_221 ?_
        refine tk_xl C hmn hS hw dL_law_222 (fun x2 hw => ?_)
        refine lv_i2c (v := (x2.toUInt32 % 65536).toInt32) C.hx C.hb dL_law_223 rfl ?_
        refine tk_aload_n C hl 3 dL_law_224 rfl ?_
        refine tw_cbi C hS (tw_runSW (As := [.inr l1, .inl ((x2.toUInt32 % 65536).toInt32), .inr l3]) C hR hS (wk_X0_type l C.hst G 2000 (by omega) _ _ _ _ _ σ hw) q1354 q1355 q63 q1356 pd_X0_type ⟨by omega, by omega⟩ hl.1 rfl (tw_r8 [] (Nat.le_of_ble_eq_true rfl)) dL_law_225) (fun E q σ H locs hX hR hS hi => hX.elim) (fun x3 σ H locs hw hR hS => ?_)
        refine tk_istore (L' := [(6, .inl x3), (0, .inr (some b)), (1, .inr l1), (2, .inr l2), (3, .inr l3), (4, .inr l4), (5, .inl l5)]) C hl dL_law_228 (by decide) rfl (fun ls hl => ?_)
        refine tk_aload_n C hl 3 dL_law_230 rfl ?_
        refine tk_aload_n C hl 1 dL_law_231 rfl ?_
        refine tk_iload C hl 6 dL_law_232 rfl ?_
        refine lv_iconst (v := 1) C.hx C.hb dL_law_234 (by decide) ?_
        refine lv_iadd C.hx C.hb dL_law_235 ?_
        refine tk_xl C hmn hS hw dL_law_236 (fun x4 hw => ?_)
        refine lv_i2c (v := (x4.toUInt32 % 65536).toInt32) C.hx C.hb dL_law_237 rfl ?_
        obtain ⟨hv, hw⟩ := hw
        refine tw_cbi C hS (tk_runV (As := [.inl ((x4.toUInt32 % 65536).toInt32)]) C hR hS (wk_X4_type l C.hst G 2000 (by omega) _ _ _ _ σ hw) hv rfl q2151 q2152 q2153 q74 q2154 pd_X4_type ⟨by omega, by omega⟩ hl.1 rfl (tw_r8 [] (Nat.le_of_ble_eq_true rfl)) dL_law_238) (fun E q σ H locs hX hR hS hi => hX.elim) (fun x5 σ H locs hw hR hS => ?_)
        refine tk_istore (L' := [(7, .inl x5), (6, .inl x3), (0, .inr (some b)), (1, .inr l1), (2, .inr l2), (3, .inr l3), (4, .inr l4), (5, .inl l5)]) C hl dL_law_241 (by decide) rfl (fun ls hl => ?_)
        refine tk_aload_n C hl 4 dL_law_243 rfl ?_
        obtain ⟨hv, hw⟩ := hw
        refine tw_cbi C hS (tk_runV (As := []) C hR hS (wk_X4_thrown l C.hst G 2000 (by omega) _ _ _ σ hw) hv rfl q2147 q2148 q2149 q74 q2150 pd_X4_thrown ⟨by omega, by omega⟩ hl.1 rfl (tw_r8 [] (Nat.le_of_ble_eq_true rfl)) dL_law_244) (fun E q σ H locs hX hR hS hi => hX.elim) (fun x6 σ H locs hw hR hS => ?_)
        refine tk_iload C hl 1 dL_law_247 rfl ?_
        refine lv_icmp_eq (tgt := 254) C.hx C.hb dL_law_249 (by decide) (fun c249 => ?_) (fun c249 => ?_)
        · replace hw := hw.1 c249
          refine tk_iload C hl 1 dL_law_254 rfl ?_
          refine lv_if_ne (tgt := 271) C.hx C.hb dL_law_256 (by decide) (fun c256 => ?_) (fun c256 => ?_)
          · replace hw := hw.2 c256
            exact wk_L_law_b271 C hr hmn hnx hfr hRl hk28 _ _ _ _ _ σ _ _ _ hw hR hS (tk_sub hl [2, 3, 4, 5, 6, 7] rfl)
          · replace hw := hw.1 c256
            refine tk_aload_n C hl 5 dL_law_259 rfl ?_
            refine lv_iconst (v := 0) C.hx C.hb dL_law_260 (by decide) ?_
            refine tk_ll C hR hw dL_law_261 (fun x7 hw => ?_)
            refine tk_iload C hl 0 dL_law_262 rfl ?_
            refine lv_i2l (v := x5.toInt64) C.hx C.hb dL_law_264 rfl ?_
            refine tk_lcmp C dL_law_265 ?_
            refine lv_if_eq (tgt := 271) C.hx C.hb dL_law_266 (by decide) (fun c266 => ?_) (fun c266 => ?_)
            · replace hw := hw.1 c266
              exact wk_L_law_b271 C hr hmn hnx hfr hRl hk28 _ _ _ _ _ σ _ _ _ hw hR hS (tk_sub hl [2, 3, 4, 5, 6, 7] rfl)
            · replace hw := hw.2 c266
              refine lv_iconst (v := 0) C.hx C.hb dL_law_269 (by decide) ?_
              exact tw_lret C hS hr hmn dL_law_270 hw
        · replace hw := hw.2 c249
          refine lv_iconst (v := 0) C.hx C.hb dL_law_252 (by decide) ?_
          exact tw_lret C hS hr hmn dL_law_253 hw
      replace hw := hw.2 c44_0
      by_cases c44_1 : (x1 &&& 63) = 1
      · replace hw := hw.1 c44_1
        refine lv_tableIn (tgt := 274) (off := 230) C.hx C.hb dL_law_44 (by rw [c44_1]; decide) (by rw [c44_1]; decide) (by rw [c44_1]; rfl) (by decide) ?_
        refine tk_aload_n C hl 1 dL_law_274 rfl ?_
        refine tk_aload_n C hl 0 dL_law_275 rfl ?_
        refine tk_iload C hl 5 dL_law_276 rfl ?_
        refine lv_iconst (v := 1) C.hx C.hb dL_law_278 (by decide) ?_
        refine lv_iadd C.hx C.hb dL_law_279 ?_
        refine tk_xl C hmn hS hw dL_law_280 (fun x9 hw => ?_)
        refine tk_aload_n C hl 3 dL_law_281 rfl ?_
        refine tw_cbi C hS (tw_runSW (As := [.inr l1, .inl x9, .inr l3]) C hR hS (wk_X0_read l C.hst G 2000 (by omega) _ _ _ _ _ σ hw) q1391 q1392 q63 q1393 pd_X0_read ⟨by omega, by omega⟩ hl.1 rfl (tw_r8 [] (Nat.le_of_ble_eq_true rfl)) dL_law_282) (fun E q σ H locs hX hR hS hi => hX.elim) (fun x10 σ H locs hw hR hS => ?_)
        refine tk_istore (L' := [(6, .inl x10), (0, .inr (some b)), (1, .inr l1), (2, .inr l2), (3, .inr l3), (4, .inr l4), (5, .inl l5)]) C hl dL_law_285 (by decide) rfl (fun ls hl => ?_)
        refine tk_aload_n C hl 3 dL_law_287 rfl ?_
        refine tk_aload_n C hl 1 dL_law_288 rfl ?_
        refine tk_iload C hl 6 dL_law_289 rfl ?_
        refine lv_iconst (v := 1) C.hx C.hb dL_law_291 (by decide) ?_
        refine lv_iadd C.hx C.hb dL_law_292 ?_
        refine tk_xl C hmn hS hw dL_law_293 (fun x11 hw => ?_)
        obtain ⟨hv, hw⟩ := hw
        refine tw_cbi C hS (tk_runV (As := [.inl x11]) C hR hS (wk_X4_read l C.hst G 2000 (by omega) _ _ _ _ σ hw) hv rfl q2159 q2160 q2161 q74 q2162 pd_X4_read ⟨by omega, by omega⟩ hl.1 rfl (tw_r8 [] (Nat.le_of_ble_eq_true rfl)) dL_law_294) (fun E q σ H locs hX hR hS hi => hX.elim) (fun x12 σ H locs hw hR hS => ?_)
        refine tk_istore (L' := [(7, .inl x12), (6, .inl x10), (0, .inr (some b)), (1, .inr l1), (2, .inr l2), (3, .inr l3), (4, .inr l4), (5, .inl l5)]) C hl dL_law_297 (by decide) rfl (fun ls hl => ?_)
        refine tk_aload_n C hl 4 dL_law_299 rfl ?_
        obtain ⟨hv, hw⟩ := hw
        refine tw_cbi C hS (tk_runV (As := []) C hR hS (wk_X4_thrown l C.hst G 2000 (by omega) _ _ _ σ hw) hv rfl q2147 q2148 q2149 q74 q2150 pd_X4_thrown ⟨by omega, by omega⟩ hl.1 rfl (tw_r8 [] (Nat.le_of_ble_eq_true rfl)) dL_law_300) (fun E q σ H locs hX hR hS hi => hX.elim) (fun x13 σ H locs hw hR hS => ?_)
        refine tk_iload C hl 1 dL_law_303 rfl ?_
        refine lv_icmp_eq (tgt := 310) C.hx C.hb dL_law_305 (by decide) (fun c305 => ?_) (fun c305 => ?_)
        · replace hw := hw.1 c305
          refine tk_iload C hl 1 dL_law_310 rfl ?_
          refine lv_if_ne (tgt := 327) C.hx C.hb dL_law_312 (by decide) (fun c312 => ?_) (fun c312 => ?_)
          · replace hw := hw.2 c312
            exact wk_L_law_b327 C hr hmn hnx hfr hRl hk28 _ _ _ _ _ σ _ _ _ hw hR hS (tk_sub hl [2, 3, 4, 5, 6, 7] rfl)
          · replace hw := hw.1 c312
            refine tk_aload_n C hl 5 dL_law_315 rfl ?_
            refine lv_iconst (v := 0) C.hx C.hb dL_law_316 (by decide) ?_
            refine tk_ll C hR hw dL_law_317 (fun x14 hw => ?_)
            refine tk_iload C hl 0 dL_law_318 rfl ?_
            refine lv_i2l (v := x12.toInt64) C.hx C.hb dL_law_320 rfl ?_
            refine tk_lcmp C dL_law_321 ?_
            refine lv_if_eq (tgt := 327) C.hx C.hb dL_law_322 (by decide) (fun c322 => ?_) (fun c322 => ?_)
            · replace hw := hw.1 c322
              exact wk_L_law_b327 C hr hmn hnx hfr hRl hk28 _ _ _ _ _ σ _ _ _ hw hR hS (tk_sub hl [2, 3, 4, 5, 6, 7] rfl)
            · replace hw := hw.2 c322
              refine lv_iconst (v := 0) C.hx C.hb dL_law_325 (by decide) ?_
              exact tw_lret C hS hr hmn dL_law_326 hw
        · replace hw := hw.2 c305
          refine lv_iconst (v := 0) C.hx C.hb dL_law_308 (by decide) ?_
          exact tw_lret C hS hr hmn dL_law_309 hw
      replace hw := hw.2 c44_1
      by_cases c44_2 : (x1 &&& 63) = 2
      · replace hw := hw.1 c44_2
        refine lv_tableIn (tgt := 330) (off := 286) C.hx C.hb dL_law_44 (by rw [c44_2]; decide) (by rw [c44_2]; decide) (by rw [c44_2]; rfl) (by decide) ?_
        refine tk_aload_n C hl 1 dL_law_330 rfl ?_
        refine tk_aload_n C hl 3 dL_law_331 rfl ?_
        refine tw_cbi C hS (tw_runSW (As := [.inr l1, .inr l3]) C hR hS (wk_X0_errorPosition l C.hst G 2000 (by omega) _ _ _ _ σ hw) q1561 q1562 q63 q1563 pd_X0_errorPosition ⟨by omega, by omega⟩ hl.1 rfl (tw_r8 [] (Nat.le_of_ble_eq_true rfl)) dL_law_332) (fun E q σ H locs hX hR hS hi => hX.elim) (fun x16 σ H locs hw hR hS => ?_)
        refine tk_istore (L' := [(6, .inl x16), (0, .inr (some b)), (1, .inr l1), (2, .inr l2), (3, .inr l3), (4, .inr l4), (5, .inl l5)]) C hl dL_law_335 (by decide) rfl (fun ls hl => ?_)
        refine tk_aload_n C hl 3 dL_law_337 rfl ?_
        obtain ⟨hv, hw⟩ := hw
        refine tw_cbi C hS (tk_runV (As := []) C hR hS (wk_X4_errorPosition l C.hst G 2000 (by omega) _ _ _ σ hw) hv rfl q2197 q2198 q2199 q74 q2200 pd_X4_errorPosition ⟨by omega, by omega⟩ hl.1 rfl (tw_r8 [] (Nat.le_of_ble_eq_true rfl)) dL_law_338) (fun E q σ H locs hX hR hS hi => hX.elim) (fun x17 σ H locs hw hR hS => ?_)
        refine tk_istore (L' := [(7, .inl x17), (6, .inl x16), (0, .inr (some b)), (1, .inr l1), (2, .inr l2), (3, .inr l3), (4, .inr l4), (5, .inl l5)]) C hl dL_law_341 (by decide) rfl (fun ls hl => ?_)
        refine tk_aload_n C hl 4 dL_law_343 rfl ?_
        obtain ⟨hv, hw⟩ := hw
        refine tw_cbi C hS (tk_runV (As := []) C hR hS (wk_X4_thrown l C.hst G 2000 (by omega) _ _ _ σ hw) hv rfl q2147 q2148 q2149 q74 q2150 pd_X4_thrown ⟨by omega, by omega⟩ hl.1 rfl (tw_r8 [] (Nat.le_of_ble_eq_true rfl)) dL_law_344) (fun E q σ H locs hX hR hS hi => hX.elim) (fun x18 σ H locs hw hR hS => ?_)
        refine tk_iload C hl 1 dL_law_347 rfl ?_
        refine lv_icmp_eq (tgt := 354) C.hx C.hb dL_law_349 (by decide) (fun c349 => ?_) (fun c349 => ?_)
        · replace hw := hw.1 c349
          refine tk_iload C hl 1 dL_law_354 rfl ?_
          refine lv_if_ne (tgt := 371) C.hx C.hb dL_law_356 (by decide) (fun c356 => ?_) (fun c356 => ?_)
          · replace hw := hw.2 c356
            exact wk_L_law_b371 C hr hmn hnx hfr hRl hk28 _ _ _ _ _ σ _ _ _ hw hR hS (tk_sub hl [2, 3, 4, 5, 6, 7] rfl)
          · replace hw := hw.1 c356
            refine tk_aload_n C hl 5 dL_law_359 rfl ?_
            refine lv_iconst (v := 0) C.hx C.hb dL_law_360 (by decide) ?_
            refine tk_ll C hR hw dL_law_361 (fun x19 hw => ?_)
            refine tk_iload C hl 0 dL_law_362 rfl ?_
            refine lv_i2l (v := x17.toInt64) C.hx C.hb dL_law_364 rfl ?_
            refine tk_lcmp C dL_law_365 ?_
            refine lv_if_eq (tgt := 371) C.hx C.hb dL_law_366 (by decide) (fun c366 => ?_) (fun c366 => ?_)
            · replace hw := hw.1 c366
              exact wk_L_law_b371 C hr hmn hnx hfr hRl hk28 _ _ _ _ _ σ _ _ _ hw hR hS (tk_sub hl [2, 3, 4, 5, 6, 7] rfl)
            · replace hw := hw.2 c366
              refine lv_iconst (v := 0) C.hx C.hb dL_law_369 (by decide) ?_
              exact tw_lret C hS hr hmn dL_law_370 hw
        · replace hw := hw.2 c349
          refine lv_iconst (v := 0) C.hx C.hb dL_law_352 (by decide) ?_
          exact tw_lret C hS hr hmn dL_law_353 hw
      replace hw := hw.2 c44_2
      by_cases c44_3 : (x1 &&& 63) = 3
      · replace hw := hw.1 c44_3
        refine lv_tableIn (tgt := 374) (off := 330) C.hx C.hb dL_law_44 (by rw [c44_3]; decide) (by rw [c44_3]; decide) (by rw [c44_3]; rfl) (by decide) ?_
        refine tk_aload_n C hl 1 dL_law_374 rfl ?_
        refine tk_aload_n C hl 0 dL_law_375 rfl ?_
        refine tk_iload C hl 5 dL_law_376 rfl ?_
        refine lv_iconst (v := 1) C.hx C.hb dL_law_378 (by decide) ?_
        refine lv_iadd C.hx C.hb dL_law_379 ?_
        refine tk_xl C hmn hS hw dL_law_380 (fun x21 hw => ?_)
        refine tk_aload_n C hl 3 dL_law_381 rfl ?_
        refine tw_cbi C hS (tw_runSW (As := [.inr l1, .inl x21, .inr l3]) C hR hS (wk_X0_writeTree l C.hst G 2000 (by omega) _ _ _ _ _ σ hw) q1574 q1575 q63 q1576 pd_X0_writeTree ⟨by omega, by omega⟩ hl.1 rfl (tw_r8 [] (Nat.le_of_ble_eq_true rfl)) dL_law_382) (fun E q σ H locs hX hR hS hi => hX.elim) (fun x22 σ H locs hw hR hS => ?_)
        refine tk_istore (L' := [(6, .inl x22), (0, .inr (some b)), (1, .inr l1), (2, .inr l2), (3, .inr l3), (4, .inr l4), (5, .inl l5)]) C hl dL_law_385 (by decide) rfl (fun ls hl => ?_)
        refine tk_aload_n C hl 3 dL_law_387 rfl ?_
        refine tk_aload_n C hl 1 dL_law_388 rfl ?_
        refine tk_iload C hl 6 dL_law_389 rfl ?_
        refine lv_iconst (v := 1) C.hx C.hb dL_law_391 (by decide) ?_
        refine lv_iadd C.hx C.hb dL_law_392 ?_
        refine tk_xl C hmn hS hw dL_law_393 (fun x23 hw => ?_)
        obtain ⟨hv, hw⟩ := hw
        refine tw_cbi C hS (tk_runV (As := [.inl x23]) C hR hS (wk_X4_writeTree l C.hst G 2000 (by omega) _ _ _ _ σ hw) hv rfl q2201 q2202 q2203 q74 q2204 pd_X4_writeTree ⟨by omega, by omega⟩ hl.1 rfl (tw_r8 [] (Nat.le_of_ble_eq_true rfl)) dL_law_394) (fun E q σ H locs hX hR hS hi => hX.elim) (fun x24 σ H locs hw hR hS => ?_)
        refine tk_istore (L' := [(7, .inl x24), (6, .inl x22), (0, .inr (some b)), (1, .inr l1), (2, .inr l2), (3, .inr l3), (4, .inr l4), (5, .inl l5)]) C hl dL_law_397 (by decide) rfl (fun ls hl => ?_)
        refine tk_aload_n C hl 4 dL_law_399 rfl ?_
        obtain ⟨hv, hw⟩ := hw
        refine tw_cbi C hS (tk_runV (As := []) C hR hS (wk_X4_thrown l C.hst G 2000 (by omega) _ _ _ σ hw) hv rfl q2147 q2148 q2149 q74 q2150 pd_X4_thrown ⟨by omega, by omega⟩ hl.1 rfl (tw_r8 [] (Nat.le_of_ble_eq_true rfl)) dL_law_400) (fun E q σ H locs hX hR hS hi => hX.elim) (fun x25 σ H locs hw hR hS => ?_)
        refine tk_iload C hl 1 dL_law_403 rfl ?_
        refine lv_icmp_eq (tgt := 410) C.hx C.hb dL_law_405 (by decide) (fun c405 => ?_) (fun c405 => ?_)
        · replace hw := hw.1 c405
          refine tk_iload C hl 1 dL_law_410 rfl ?_
          refine lv_if_ne (tgt := 427) C.hx C.hb dL_law_412 (by decide) (fun c412 => ?_) (fun c412 => ?_)
          · replace hw := hw.2 c412
            exact wk_L_law_b427 C hr hmn hnx hfr hRl hk28 _ _ _ _ _ σ _ _ _ hw hR hS (tk_sub hl [2, 3, 4, 5, 6, 7] rfl)
          · replace hw := hw.1 c412
            refine tk_aload_n C hl 5 dL_law_415 rfl ?_
            refine lv_iconst (v := 0) C.hx C.hb dL_law_416 (by decide) ?_
            refine tk_ll C hR hw dL_law_417 (fun x26 hw => ?_)
            refine tk_iload C hl 0 dL_law_418 rfl ?_
            refine lv_i2l (v := x24.toInt64) C.hx C.hb dL_law_420 rfl ?_
            refine tk_lcmp C dL_law_421 ?_
            refine lv_if_eq (tgt := 427) C.hx C.hb dL_law_422 (by decide) (fun c422 => ?_) (fun c422 => ?_)
            · replace hw := hw.1 c422
              exact wk_L_law_b427 C hr hmn hnx hfr hRl hk28 _ _ _ _ _ σ _ _ _ hw hR hS (tk_sub hl [2, 3, 4, 5, 6, 7] rfl)
            · replace hw := hw.2 c422
              refine lv_iconst (v := 0) C.hx C.hb dL_law_425 (by decide) ?_
              exact tw_lret C hS hr hmn dL_law_426 hw
        · replace hw := hw.2 c405
          refine lv_iconst (v := 0) C.hx C.hb dL_law_408 (by decide) ?_
          exact tw_lret C hS hr hmn dL_law_409 hw
      replace hw := hw.2 c44_3
      by_cases c44_4 : (x1 &&& 63) = 4
      · replace hw := hw.1 c44_4
        refine lv_tableIn (tgt := 430) (off := 386) C.hx C.hb dL_law_44 (by rw [c44_4]; decide) (by rw [c44_4]; decide) (by rw [c44_4]; rfl) (by decide) ?_
        refine tk_aload_n C hl 1 dL_law_430 rfl ?_
        refine tk_aload_n C hl 3 dL_law_431 rfl ?_
        refine tw_cbi C hS (tw_runSW (As := [.inr l1, .inr l3]) C hR hS (wk_X0_writeScript l C.hst G 2000 (by omega) _ _ _ _ σ hw) q1594 q1595 q63 q1596 pd_X0_writeScript ⟨by omega, by omega⟩ hl.1 rfl (tw_r8 [] (Nat.le_of_ble_eq_true rfl)) dL_law_432) (fun E q σ H locs hX hR hS hi => hX.elim) (fun x28 σ H locs hw hR hS => ?_)
        refine tk_istore (L' := [(6, .inl x28), (0, .inr (some b)), (1, .inr l1), (2, .inr l2), (3, .inr l3), (4, .inr l4), (5, .inl l5)]) C hl dL_law_435 (by decide) rfl (fun ls hl => ?_)
        refine tk_aload_n C hl 3 dL_law_437 rfl ?_
        obtain ⟨hv, hw⟩ := hw
        refine tw_cbi C hS (tk_runV (As := []) C hR hS (wk_X4_writeScript l C.hst G 2000 (by omega) _ _ _ σ hw) hv rfl q2224 q2225 q2226 q74 q2227 pd_X4_writeScript ⟨by omega, by omega⟩ hl.1 rfl (tw_r8 [] (Nat.le_of_ble_eq_true rfl)) dL_law_438) (fun E q σ H locs hX hR hS hi => hX.elim) (fun x29 σ H locs hw hR hS => ?_)
        refine tk_istore (L' := [(7, .inl x29), (6, .inl x28), (0, .inr (some b)), (1, .inr l1), (2, .inr l2), (3, .inr l3), (4, .inr l4), (5, .inl l5)]) C hl dL_law_441 (by decide) rfl (fun ls hl => ?_)
        refine tk_aload_n C hl 4 dL_law_443 rfl ?_
        obtain ⟨hv, hw⟩ := hw
        refine tw_cbi C hS (tk_runV (As := []) C hR hS (wk_X4_thrown l C.hst G 2000 (by omega) _ _ _ σ hw) hv rfl q2147 q2148 q2149 q74 q2150 pd_X4_thrown ⟨by omega, by omega⟩ hl.1 rfl (tw_r8 [] (Nat.le_of_ble_eq_true rfl)) dL_law_444) (fun E q σ H locs hX hR hS hi => hX.elim) (fun x30 σ H locs hw hR hS => ?_)
        refine tk_iload C hl 1 dL_law_447 rfl ?_
        refine lv_icmp_eq (tgt := 454) C.hx C.hb dL_law_449 (by decide) (fun c449 => ?_) (fun c449 => ?_)
        · replace hw := hw.1 c449
          refine tk_iload C hl 1 dL_law_454 rfl ?_
          refine lv_if_ne (tgt := 471) C.hx C.hb dL_law_456 (by decide) (fun c456 => ?_) (fun c456 => ?_)
          · replace hw := hw.2 c456
            exact wk_L_law_b471 C hr hmn hnx hfr hRl hk28 _ _ _ _ _ σ _ _ _ hw hR hS (tk_sub hl [2, 3, 4, 5, 6, 7] rfl)
          · replace hw := hw.1 c456
            refine tk_aload_n C hl 5 dL_law_459 rfl ?_
            refine lv_iconst (v := 0) C.hx C.hb dL_law_460 (by decide) ?_
            refine tk_ll C hR hw dL_law_461 (fun x31 hw => ?_)
            refine tk_iload C hl 0 dL_law_462 rfl ?_
            refine lv_i2l (v := x29.toInt64) C.hx C.hb dL_law_464 rfl ?_
            refine tk_lcmp C dL_law_465 ?_
            refine lv_if_eq (tgt := 471) C.hx C.hb dL_law_466 (by decide) (fun c466 => ?_) (fun c466 => ?_)
            · replace hw := hw.1 c466
              exact wk_L_law_b471 C hr hmn hnx hfr hRl hk28 _ _ _ _ _ σ _ _ _ hw hR hS (tk_sub hl [2, 3, 4, 5, 6, 7] rfl)
            · replace hw := hw.2 c466
              refine lv_iconst (v := 0) C.hx C.hb dL_law_469 (by decide) ?_
              exact tw_lret C hS hr hmn dL_law_470 hw
        · replace hw := hw.2 c449
          refine lv_iconst (v := 0) C.hx C.hb dL_law_452 (by decide) ?_
          exact tw_lret C hS hr hmn dL_law_453 hw
      replace hw := hw.2 c44_4
      by_cases c44_5 : (x1 &&& 63) = 5
      · replace hw := hw.1 c44_5
        refine lv_tableIn (tgt := 474) (off := 430) C.hx C.hb dL_law_44 (by rw [c44_5]; decide) (by rw [c44_5]; decide) (by rw [c44_5]; rfl) (by decide) ?_
        refine tk_aload_n C hl 1 dL_law_474 rfl ?_
        refine tk_aload_n C hl 0 dL_law_475 rfl ?_
        refine tk_iload C hl 5 dL_law_476 rfl ?_
        refine lv_iconst (v := 1) C.hx C.hb dL_law_478 (by decide) ?_
        refine lv_iadd C.hx C.hb dL_law_479 ?_
        refine tk_xl C hmn hS hw dL_law_480 (fun x33 hw => ?_)
        refine tk_aload_n C hl 3 dL_law_481 rfl ?_
        refine tw_cbi C hS (tw_runSW (As := [.inr l1, .inl x33, .inr l3]) C hR hS (wk_X0_charAt l C.hst G 2000 (by omega) _ _ _ _ _ σ hw) q1627 q1628 q63 q1629 pd_X0_charAt ⟨by omega, by omega⟩ hl.1 rfl (tw_r8 [] (Nat.le_of_ble_eq_true rfl)) dL_law_482) (fun E q σ H locs hX hR hS hi => hX.elim) (fun x34 σ H locs hw hR hS => ?_)
        refine tk_istore (L' := [(6, .inl x34), (0, .inr (some b)), (1, .inr l1), (2, .inr l2), (3, .inr l3), (4, .inr l4), (5, .inl l5)]) C hl dL_law_485 (by decide) rfl (fun ls hl => ?_)
        refine tk_aload_n C hl 3 dL_law_487 rfl ?_
        refine tk_aload_n C hl 1 dL_law_488 rfl ?_
        refine tk_iload C hl 6 dL_law_489 rfl ?_
        refine lv_iconst (v := 1) C.hx C.hb dL_law_491 (by decide) ?_
        refine lv_iadd C.hx C.hb dL_law_492 ?_
        refine tk_xl C hmn hS hw dL_law_493 (fun x35 hw => ?_)
        obtain ⟨hv, hw⟩ := hw
        refine tw_cbi C hS (tk_runV (As := [.inl x35]) C hR hS (wk_X4_charAt l C.hst G 2000 (by omega) _ _ _ _ σ hw) hv rfl q2228 q2229 q2230 q74 q2231 pd_X4_charAt ⟨by omega, by omega⟩ hl.1 rfl (tw_r8 [] (Nat.le_of_ble_eq_true rfl)) dL_law_494) (fun E q σ H locs hX hR hS hi => hX.elim) (fun x36 σ H locs hw hR hS => ?_)
        refine tk_istore (L' := [(7, .inl x36), (6, .inl x34), (0, .inr (some b)), (1, .inr l1), (2, .inr l2), (3, .inr l3), (4, .inr l4), (5, .inl l5)]) C hl dL_law_497 (by decide) rfl (fun ls hl => ?_)
        refine tk_aload_n C hl 4 dL_law_499 rfl ?_
        obtain ⟨hv, hw⟩ := hw
        refine tw_cbi C hS (tk_runV (As := []) C hR hS (wk_X4_thrown l C.hst G 2000 (by omega) _ _ _ σ hw) hv rfl q2147 q2148 q2149 q74 q2150 pd_X4_thrown ⟨by omega, by omega⟩ hl.1 rfl (tw_r8 [] (Nat.le_of_ble_eq_true rfl)) dL_law_500) (fun E q σ H locs hX hR hS hi => hX.elim) (fun x37 σ H locs hw hR hS => ?_)
        refine tk_iload C hl 1 dL_law_503 rfl ?_
        refine lv_icmp_eq (tgt := 510) C.hx C.hb dL_law_505 (by decide) (fun c505 => ?_) (fun c505 => ?_)
        · replace hw := hw.1 c505
          refine tk_iload C hl 1 dL_law_510 rfl ?_
          refine lv_if_ne (tgt := 527) C.hx C.hb dL_law_512 (by decide) (fun c512 => ?_) (fun c512 => ?_)
          · replace hw := hw.2 c512
            exact wk_L_law_b527 C hr hmn hnx hfr hRl hk28 _ _ _ _ _ σ _ _ _ hw hR hS (tk_sub hl [2, 3, 4, 5, 6, 7] rfl)
          · replace hw := hw.1 c512
            refine tk_aload_n C hl 5 dL_law_515 rfl ?_
            refine lv_iconst (v := 0) C.hx C.hb dL_law_516 (by decide) ?_
            refine tk_ll C hR hw dL_law_517 (fun x38 hw => ?_)
            refine tk_iload C hl 0 dL_law_518 rfl ?_
            refine lv_i2l (v := x36.toInt64) C.hx C.hb dL_law_520 rfl ?_
            refine tk_lcmp C dL_law_521 ?_
            refine lv_if_eq (tgt := 527) C.hx C.hb dL_law_522 (by decide) (fun c522 => ?_) (fun c522 => ?_)
            · replace hw := hw.1 c522
              exact wk_L_law_b527 C hr hmn hnx hfr hRl hk28 _ _ _ _ _ σ _ _ _ hw hR hS (tk_sub hl [2, 3, 4, 5, 6, 7] rfl)
            · replace hw := hw.2 c522
              refine lv_iconst (v := 0) C.hx C.hb dL_law_525 (by decide) ?_
              exact tw_lret C hS hr hmn dL_law_526 hw
        · replace hw := hw.2 c505
          refine lv_iconst (v := 0) C.hx C.hb dL_law_508 (by decide) ?_
          exact tw_lret C hS hr hmn dL_law_509 hw
      replace hw := hw.2 c44_5
      by_cases c44_6 : (x1 &&& 63) = 6
      · replace hw := hw.1 c44_6
        refine lv_tableIn (tgt := 530) (off := 486) C.hx C.hb dL_law_44 (by rw [c44_6]; decide) (by rw [c44_6]; decide) (by rw [c44_6]; rfl) (by decide) ?_
        refine tk_aload_n C hl 1 dL_law_530 rfl ?_
        refine tk_aload_n C hl 0 dL_law_531 rfl ?_
        refine tk_iload C hl 5 dL_law_532 rfl ?_
        refine lv_iconst (v := 1) C.hx C.hb dL_law_534 (by decide) ?_
        refine lv_iadd C.hx C.hb dL_law_535 ?_
        refine tk_xl C hmn hS hw dL_law_536 (fun x40 hw => ?_)
        refine tk_aload_n C hl 0 dL_law_537 rfl ?_
        refine tk_iload C hl 5 dL_law_538 rfl ?_
        refine lv_iconst (v := 2) C.hx C.hb dL_law_540 (by decide) ?_
        refine lv_iadd C.hx C.hb dL_law_541 ?_
        refine tk_xl C hmn hS hw dL_law_542 (fun x41 hw => ?_)
        refine tk_aload_n C hl 0 dL_law_543 rfl ?_
        refine tk_iload C hl 5 dL_law_544 rfl ?_
        refine lv_iconst (v := 3) C.hx C.hb dL_law_546 (by decide) ?_
        refine lv_iadd C.hx C.hb dL_law_547 ?_
        refine tk_xl C hmn hS hw dL_law_548 (fun x42 hw => ?_)
        refine tk_aload_n C hl 0 dL_law_549 rfl ?_
        refine tk_iload C hl 5 dL_law_550 rfl ?_
        refine lv_iconst (v := 4) C.hx C.hb dL_law_552 (by decide) ?_
        refine lv_iadd C.hx C.hb dL_law_553 ?_
        refine tk_xl C hmn hS hw dL_law_554 (fun x43 hw => ?_)
        refine lv_i2c (v := (x43.toUInt32 % 65536).toInt32) C.hx C.hb dL_law_555 rfl ?_
        refine tk_aload_n C hl 3 dL_law_556 rfl ?_
        refine tw_cbi C hS (tw_runSW (As := [.inr l1, .inl x40, .inl x41, .inl x42, .inl ((x43.toUInt32 % 65536).toInt32), .inr l3]) C hR hS (wk_X0_addNode l C.hst G 2000 (by omega) _ _ _ _ _ _ _ _ σ hw) q1635 q1636 q63 q1637 pd_X0_addNode ⟨by omega, by omega⟩ hl.1 rfl (tw_r8 [] (Nat.le_of_ble_eq_true rfl)) dL_law_557) (fun E q σ H locs hX hR hS hi => hX.elim) (fun x44 σ H locs hw hR hS => ?_)
        refine tk_istore (L' := [(6, .inl x44), (0, .inr (some b)), (1, .inr l1), (2, .inr l2), (3, .inr l3), (4, .inr l4), (5, .inl l5)]) C hl dL_law_560 (by decide) rfl (fun ls hl => ?_)
        refine tk_aload_n C hl 3 dL_law_562 rfl ?_
        refine tk_aload_n C hl 1 dL_law_563 rfl ?_
        refine tk_iload C hl 6 dL_law_564 rfl ?_
        refine lv_iconst (v := 1) C.hx C.hb dL_law_566 (by decide) ?_
        refine lv_iadd C.hx C.hb dL_law_567 ?_
        refine tk_xl C hmn hS hw dL_law_568 (fun x45 hw => ?_)
        refine tk_aload_n C hl 1 dL_law_569 rfl ?_
        refine tk_iload C hl 6 dL_law_570 rfl ?_
        refine lv_iconst (v := 2) C.hx C.hb dL_law_572 (by decide) ?_
        refine lv_iadd C.hx C.hb dL_law_573 ?_
        refine tk_xl C hmn hS hw dL_law_574 (fun x46 hw => ?_)
        refine tk_aload_n C hl 1 dL_law_575 rfl ?_
        refine tk_iload C hl 6 dL_law_576 rfl ?_
        refine lv_iconst (v := 3) C.hx C.hb dL_law_578 (by decide) ?_
        refine lv_iadd C.hx C.hb dL_law_579 ?_
        refine tk_xl C hmn hS hw dL_law_580 (fun x47 hw => ?_)
        refine tk_aload_n C hl 1 dL_law_581 rfl ?_
        refine tk_iload C hl 6 dL_law_582 rfl ?_
        refine lv_iconst (v := 4) C.hx C.hb dL_law_584 (by decide) ?_
        refine lv_iadd C.hx C.hb dL_law_585 ?_
        refine tk_xl C hmn hS hw dL_law_586 (fun x48 hw => ?_)
        refine lv_i2c (v := (x48.toUInt32 % 65536).toInt32) C.hx C.hb dL_law_587 rfl ?_
        obtain ⟨hv, hw⟩ := hw
        refine tw_cbi C hS (tk_runV (As := [.inl x45, .inl x46, .inl x47, .inl ((x48.toUInt32 % 65536).toInt32)]) C hR hS (wk_X4_addNode l C.hst G 2000 (by omega) _ _ _ _ _ _ _ σ hw) hv rfl q2247 q2248 q2249 q74 q2250 pd_X4_addNode ⟨by omega, by omega⟩ hl.1 rfl (tw_r8 [] (Nat.le_of_ble_eq_true rfl)) dL_law_588) (fun E q σ H locs hX hR hS hi => hX.elim) (fun x49 σ H locs hw hR hS => ?_)
        refine tk_istore (L' := [(7, .inl x49), (6, .inl x44), (0, .inr (some b)), (1, .inr l1), (2, .inr l2), (3, .inr l3), (4, .inr l4), (5, .inl l5)]) C hl dL_law_591 (by decide) rfl (fun ls hl => ?_)
        refine tk_aload_n C hl 4 dL_law_593 rfl ?_
        obtain ⟨hv, hw⟩ := hw
        refine tw_cbi C hS (tk_runV (As := []) C hR hS (wk_X4_thrown l C.hst G 2000 (by omega) _ _ _ σ hw) hv rfl q2147 q2148 q2149 q74 q2150 pd_X4_thrown ⟨by omega, by omega⟩ hl.1 rfl (tw_r8 [] (Nat.le_of_ble_eq_true rfl)) dL_law_594) (fun E q σ H locs hX hR hS hi => hX.elim) (fun x50 σ H locs hw hR hS => ?_)
        refine tk_iload C hl 1 dL_law_597 rfl ?_
        refine lv_icmp_eq (tgt := 604) C.hx C.hb dL_law_599 (by decide) (fun c599 => ?_) (fun c599 => ?_)
        · replace hw := hw.1 c599
          refine tk_iload C hl 1 dL_law_604 rfl ?_
          refine lv_if_ne (tgt := 621) C.hx C.hb dL_law_606 (by decide) (fun c606 => ?_) (fun c606 => ?_)
          · replace hw := hw.2 c606
            exact wk_L_law_b621 C hr hmn hnx hfr hRl hk28 _ _ _ _ _ σ _ _ _ hw hR hS (tk_sub hl [2, 3, 4, 5, 6, 7] rfl)
          · replace hw := hw.1 c606
            refine tk_aload_n C hl 5 dL_law_609 rfl ?_
            refine lv_iconst (v := 0) C.hx C.hb dL_law_610 (by decide) ?_
            refine tk_ll C hR hw dL_law_611 (fun x51 hw => ?_)
            refine tk_iload C hl 0 dL_law_612 rfl ?_
            refine lv_i2l (v := x49.toInt64) C.hx C.hb dL_law_614 rfl ?_
            refine tk_lcmp C dL_law_615 ?_
            refine lv_if_eq (tgt := 621) C.hx C.hb dL_law_616 (by decide) (fun c616 => ?_) (fun c616 => ?_)
            · replace hw := hw.1 c616
              exact wk_L_law_b621 C hr hmn hnx hfr hRl hk28 _ _ _ _ _ σ _ _ _ hw hR hS (tk_sub hl [2, 3, 4, 5, 6, 7] rfl)
            · replace hw := hw.2 c616
              refine lv_iconst (v := 0) C.hx C.hb dL_law_619 (by decide) ?_
              exact tw_lret C hS hr hmn dL_law_620 hw
        · replace hw := hw.2 c599
          refine lv_iconst (v := 0) C.hx C.hb dL_law_602 (by decide) ?_
          exact tw_lret C hS hr hmn dL_law_603 hw
      replace hw := hw.2 c44_6
      by_cases c44_7 : (x1 &&& 63) = 7
      · replace hw := hw.1 c44_7
        refine lv_tableIn (tgt := 624) (off := 580) C.hx C.hb dL_law_44 (by rw [c44_7]; decide) (by rw [c44_7]; decide) (by rw [c44_7]; rfl) (by decide) ?_
        refine tk_aload_n C hl 1 dL_law_624 rfl ?_
        refine tk_aload_n C hl 0 dL_law_625 rfl ?_
        refine tk_iload C hl 5 dL_law_626 rfl ?_
        refine lv_iconst (v := 1) C.hx C.hb dL_law_628 (by decide) ?_
        refine lv_iadd C.hx C.hb dL_law_629 ?_
        refine tk_xl C hmn hS hw dL_law_630 (fun x53 hw => ?_)
        refine tk_aload_n C hl 0 dL_law_631 rfl ?_
        refine tk_iload C hl 5 dL_law_632 rfl ?_
        refine lv_iconst (v := 2) C.hx C.hb dL_law_634 (by decide) ?_
        refine lv_iadd C.hx C.hb dL_law_635 ?_
        refine tk_xl C hmn hS hw dL_law_636 (fun x54 hw => ?_)
        refine tk_aload_n C hl 3 dL_law_637 rfl ?_
        refine tw_cbi C hS (tw_runSW (As := [.inr l1, .inl x53, .inl x54, .inr l3]) C hR hS (wk_X0_removeNode l C.hst G 2000 (by omega) _ _ _ _ _ _ σ hw) q1654 q1655 q63 q1656 pd_X0_removeNode ⟨by omega, by omega⟩ hl.1 rfl (tw_r8 [] (Nat.le_of_ble_eq_true rfl)) dL_law_638) (fun E q σ H locs hX hR hS hi => hX.elim) (fun x55 σ H locs hw hR hS => ?_)
        refine tk_istore (L' := [(6, .inl x55), (0, .inr (some b)), (1, .inr l1), (2, .inr l2), (3, .inr l3), (4, .inr l4), (5, .inl l5)]) C hl dL_law_641 (by decide) rfl (fun ls hl => ?_)
        refine tk_aload_n C hl 3 dL_law_643 rfl ?_
        refine tk_aload_n C hl 1 dL_law_644 rfl ?_
        refine tk_iload C hl 6 dL_law_645 rfl ?_
        refine lv_iconst (v := 1) C.hx C.hb dL_law_647 (by decide) ?_
        refine lv_iadd C.hx C.hb dL_law_648 ?_
        refine tk_xl C hmn hS hw dL_law_649 (fun x56 hw => ?_)
        refine tk_aload_n C hl 1 dL_law_650 rfl ?_
        refine tk_iload C hl 6 dL_law_651 rfl ?_
        refine lv_iconst (v := 2) C.hx C.hb dL_law_653 (by decide) ?_
        refine lv_iadd C.hx C.hb dL_law_654 ?_
        refine tk_xl C hmn hS hw dL_law_655 (fun x57 hw => ?_)
        obtain ⟨hv, hw⟩ := hw
        refine tw_cbi C hS (tk_runV (As := [.inl x56, .inl x57]) C hR hS (wk_X4_removeNode l C.hst G 2000 (by omega) _ _ _ _ _ σ hw) hv rfl q2271 q2272 q2273 q74 q2274 pd_X4_removeNode ⟨by omega, by omega⟩ hl.1 rfl (tw_r8 [] (Nat.le_of_ble_eq_true rfl)) dL_law_656) (fun E q σ H locs hX hR hS hi => hX.elim) (fun x58 σ H locs hw hR hS => ?_)
        refine tk_istore (L' := [(7, .inl x58), (6, .inl x55), (0, .inr (some b)), (1, .inr l1), (2, .inr l2), (3, .inr l3), (4, .inr l4), (5, .inl l5)]) C hl dL_law_659 (by decide) rfl (fun ls hl => ?_)
        refine tk_aload_n C hl 4 dL_law_661 rfl ?_
        obtain ⟨hv, hw⟩ := hw
        refine tw_cbi C hS (tk_runV (As := []) C hR hS (wk_X4_thrown l C.hst G 2000 (by omega) _ _ _ σ hw) hv rfl q2147 q2148 q2149 q74 q2150 pd_X4_thrown ⟨by omega, by omega⟩ hl.1 rfl (tw_r8 [] (Nat.le_of_ble_eq_true rfl)) dL_law_662) (fun E q σ H locs hX hR hS hi => hX.elim) (fun x59 σ H locs hw hR hS => ?_)
        refine tk_iload C hl 1 dL_law_665 rfl ?_
        refine lv_icmp_eq (tgt := 672) C.hx C.hb dL_law_667 (by decide) (fun c667 => ?_) (fun c667 => ?_)
        · replace hw := hw.1 c667
          refine tk_iload C hl 1 dL_law_672 rfl ?_
          refine lv_if_ne (tgt := 689) C.hx C.hb dL_law_674 (by decide) (fun c674 => ?_) (fun c674 => ?_)
          · replace hw := hw.2 c674
            exact wk_L_law_b689 C hr hmn hnx hfr hRl hk28 _ _ _ _ _ σ _ _ _ hw hR hS (tk_sub hl [2, 3, 4, 5, 6, 7] rfl)
          · replace hw := hw.1 c674
            refine tk_aload_n C hl 5 dL_law_677 rfl ?_
            refine lv_iconst (v := 0) C.hx C.hb dL_law_678 (by decide) ?_
            refine tk_ll C hR hw dL_law_679 (fun x60 hw => ?_)
            refine tk_iload C hl 0 dL_law_680 rfl ?_
            refine lv_i2l (v := x58.toInt64) C.hx C.hb dL_law_682 rfl ?_
            refine tk_lcmp C dL_law_683 ?_
            refine lv_if_eq (tgt := 689) C.hx C.hb dL_law_684 (by decide) (fun c684 => ?_) (fun c684 => ?_)
            · replace hw := hw.1 c684
              exact wk_L_law_b689 C hr hmn hnx hfr hRl hk28 _ _ _ _ _ σ _ _ _ hw hR hS (tk_sub hl [2, 3, 4, 5, 6, 7] rfl)
            · replace hw := hw.2 c684
              refine lv_iconst (v := 0) C.hx C.hb dL_law_687 (by decide) ?_
              exact tw_lret C hS hr hmn dL_law_688 hw
        · replace hw := hw.2 c667
          refine lv_iconst (v := 0) C.hx C.hb dL_law_670 (by decide) ?_
          exact tw_lret C hS hr hmn dL_law_671 hw
      replace hw := hw.2 c44_7
      by_cases c44_8 : (x1 &&& 63) = 8
      · replace hw := hw.1 c44_8
        refine lv_tableIn (tgt := 692) (off := 648) C.hx C.hb dL_law_44 (by rw [c44_8]; decide) (by rw [c44_8]; decide) (by rw [c44_8]; rfl) (by decide) ?_
        refine tk_aload_n C hl 1 dL_law_692 rfl ?_
        refine tk_aload_n C hl 0 dL_law_693 rfl ?_
        refine tk_iload C hl 5 dL_law_694 rfl ?_
        refine lv_iconst (v := 1) C.hx C.hb dL_law_696 (by decide) ?_
        refine lv_iadd C.hx C.hb dL_law_697 ?_
        refine tk_xl C hmn hS hw dL_law_698 (fun x62 hw => ?_)
        refine tk_aload_n C hl 0 dL_law_699 rfl ?_
        refine tk_iload C hl 5 dL_law_700 rfl ?_
        refine lv_iconst (v := 2) C.hx C.hb dL_law_702 (by decide) ?_
        refine lv_iadd C.hx C.hb dL_law_703 ?_
        refine tk_xl C hmn hS hw dL_law_704 (fun x63 hw => ?_)
        refine tk_aload_n C hl 0 dL_law_705 rfl ?_
        refine tk_iload C hl 5 dL_law_706 rfl ?_
        refine lv_iconst (v := 3) C.hx C.hb dL_law_708 (by decide) ?_
        refine lv_iadd C.hx C.hb dL_law_709 ?_
        refine tk_xl C hmn hS hw dL_law_710 (fun x64 hw => ?_)
        refine lv_i2c (v := (x64.toUInt32 % 65536).toInt32) C.hx C.hb dL_law_711 rfl ?_
        refine tk_aload_n C hl 3 dL_law_712 rfl ?_
        refine tw_cbi C hS (tw_runSW (As := [.inr l1, .inl x62, .inl x63, .inl ((x64.toUInt32 % 65536).toInt32), .inr l3]) C hR hS (wk_X0_setLabel l C.hst G 2000 (by omega) _ _ _ _ _ _ _ σ hw) q1681 q1682 q63 q1683 pd_X0_setLabel ⟨by omega, by omega⟩ hl.1 rfl (tw_r8 [] (Nat.le_of_ble_eq_true rfl)) dL_law_713) (fun E q σ H locs hX hR hS hi => hX.elim) (fun x65 σ H locs hw hR hS => ?_)
        refine tk_istore (L' := [(6, .inl x65), (0, .inr (some b)), (1, .inr l1), (2, .inr l2), (3, .inr l3), (4, .inr l4), (5, .inl l5)]) C hl dL_law_716 (by decide) rfl (fun ls hl => ?_)
        refine tk_aload_n C hl 3 dL_law_718 rfl ?_
        refine tk_aload_n C hl 1 dL_law_719 rfl ?_
        refine tk_iload C hl 6 dL_law_720 rfl ?_
        refine lv_iconst (v := 1) C.hx C.hb dL_law_722 (by decide) ?_
        refine lv_iadd C.hx C.hb dL_law_723 ?_
        refine tk_xl C hmn hS hw dL_law_724 (fun x66 hw => ?_)
        refine tk_aload_n C hl 1 dL_law_725 rfl ?_
        refine tk_iload C hl 6 dL_law_726 rfl ?_
        refine lv_iconst (v := 2) C.hx C.hb dL_law_728 (by decide) ?_
        refine lv_iadd C.hx C.hb dL_law_729 ?_
        refine tk_xl C hmn hS hw dL_law_730 (fun x67 hw => ?_)
        refine tk_aload_n C hl 1 dL_law_731 rfl ?_
        refine tk_iload C hl 6 dL_law_732 rfl ?_
        refine lv_iconst (v := 3) C.hx C.hb dL_law_734 (by decide) ?_
        refine lv_iadd C.hx C.hb dL_law_735 ?_
        refine tk_xl C hmn hS hw dL_law_736 (fun x68 hw => ?_)
        refine lv_i2c (v := (x68.toUInt32 % 65536).toInt32) C.hx C.hb dL_law_737 rfl ?_
        obtain ⟨hv, hw⟩ := hw
        refine tw_cbi C hS (tk_runV (As := [.inl x66, .inl x67, .inl ((x68.toUInt32 % 65536).toInt32)]) C hR hS (wk_X4_setLabel l C.hst G 2000 (by omega) _ _ _ _ _ _ σ hw) hv rfl q2275 q2276 q2277 q74 q2278 pd_X4_setLabel ⟨by omega, by omega⟩ hl.1 rfl (tw_r8 [] (Nat.le_of_ble_eq_true rfl)) dL_law_738) (fun E q σ H locs hX hR hS hi => hX.elim) (fun x69 σ H locs hw hR hS => ?_)
        refine tk_istore (L' := [(7, .inl x69), (6, .inl x65), (0, .inr (some b)), (1, .inr l1), (2, .inr l2), (3, .inr l3), (4, .inr l4), (5, .inl l5)]) C hl dL_law_741 (by decide) rfl (fun ls hl => ?_)
        refine tk_aload_n C hl 4 dL_law_743 rfl ?_
        obtain ⟨hv, hw⟩ := hw
        refine tw_cbi C hS (tk_runV (As := []) C hR hS (wk_X4_thrown l C.hst G 2000 (by omega) _ _ _ σ hw) hv rfl q2147 q2148 q2149 q74 q2150 pd_X4_thrown ⟨by omega, by omega⟩ hl.1 rfl (tw_r8 [] (Nat.le_of_ble_eq_true rfl)) dL_law_744) (fun E q σ H locs hX hR hS hi => hX.elim) (fun x70 σ H locs hw hR hS => ?_)
        refine tk_iload C hl 1 dL_law_747 rfl ?_
        refine lv_icmp_eq (tgt := 754) C.hx C.hb dL_law_749 (by decide) (fun c749 => ?_) (fun c749 => ?_)
        · replace hw := hw.1 c749
          refine tk_iload C hl 1 dL_law_754 rfl ?_
          refine lv_if_ne (tgt := 771) C.hx C.hb dL_law_756 (by decide) (fun c756 => ?_) (fun c756 => ?_)
          · replace hw := hw.2 c756
            exact wk_L_law_b771 C hr hmn hnx hfr hRl hk28 _ _ _ _ _ σ _ _ _ hw hR hS (tk_sub hl [2, 3, 4, 5, 6, 7] rfl)
          · replace hw := hw.1 c756
            refine tk_aload_n C hl 5 dL_law_759 rfl ?_
            refine lv_iconst (v := 0) C.hx C.hb dL_law_760 (by decide) ?_
            refine tk_ll C hR hw dL_law_761 (fun x71 hw => ?_)
            refine tk_iload C hl 0 dL_law_762 rfl ?_
            refine lv_i2l (v := x69.toInt64) C.hx C.hb dL_law_764 rfl ?_
            refine tk_lcmp C dL_law_765 ?_
            refine lv_if_eq (tgt := 771) C.hx C.hb dL_law_766 (by decide) (fun c766 => ?_) (fun c766 => ?_)
            · replace hw := hw.1 c766
              exact wk_L_law_b771 C hr hmn hnx hfr hRl hk28 _ _ _ _ _ σ _ _ _ hw hR hS (tk_sub hl [2, 3, 4, 5, 6, 7] rfl)
            · replace hw := hw.2 c766
              refine lv_iconst (v := 0) C.hx C.hb dL_law_769 (by decide) ?_
              exact tw_lret C hS hr hmn dL_law_770 hw
        · replace hw := hw.2 c749
          refine lv_iconst (v := 0) C.hx C.hb dL_law_752 (by decide) ?_
          exact tw_lret C hS hr hmn dL_law_753 hw
      replace hw := hw.2 c44_8
      by_cases c44_9 : (x1 &&& 63) = 9
      · replace hw := hw.1 c44_9
        refine lv_tableIn (tgt := 774) (off := 730) C.hx C.hb dL_law_44 (by rw [c44_9]; decide) (by rw [c44_9]; decide) (by rw [c44_9]; rfl) (by decide) ?_
        refine tk_aload_n C hl 1 dL_law_774 rfl ?_
        refine tk_aload_n C hl 0 dL_law_775 rfl ?_
        refine tk_iload C hl 5 dL_law_776 rfl ?_
        refine lv_iconst (v := 1) C.hx C.hb dL_law_778 (by decide) ?_
        refine lv_iadd C.hx C.hb dL_law_779 ?_
        refine tk_xl C hmn hS hw dL_law_780 (fun x73 hw => ?_)
        refine tk_aload_n C hl 0 dL_law_781 rfl ?_
        refine tk_iload C hl 5 dL_law_782 rfl ?_
        refine lv_iconst (v := 2) C.hx C.hb dL_law_784 (by decide) ?_
        refine lv_iadd C.hx C.hb dL_law_785 ?_
        refine tk_xl C hmn hS hw dL_law_786 (fun x74 hw => ?_)
        refine tk_aload_n C hl 0 dL_law_787 rfl ?_
        refine tk_iload C hl 5 dL_law_788 rfl ?_
        refine lv_iconst (v := 3) C.hx C.hb dL_law_790 (by decide) ?_
        refine lv_iadd C.hx C.hb dL_law_791 ?_
        refine tk_xl C hmn hS hw dL_law_792 (fun x75 hw => ?_)
        refine tk_aload_n C hl 3 dL_law_793 rfl ?_
        refine tw_cbi C hS (tw_runSW (As := [.inr l1, .inl x73, .inl x74, .inl x75, .inr l3]) C hR hS (wk_X0_setKey l C.hst G 2000 (by omega) _ _ _ _ _ _ _ σ hw) q1689 q1690 q63 q1691 pd_X0_setKey ⟨by omega, by omega⟩ hl.1 rfl (tw_r8 [] (Nat.le_of_ble_eq_true rfl)) dL_law_794) (fun E q σ H locs hX hR hS hi => hX.elim) (fun x76 σ H locs hw hR hS => ?_)
        refine tk_istore (L' := [(6, .inl x76), (0, .inr (some b)), (1, .inr l1), (2, .inr l2), (3, .inr l3), (4, .inr l4), (5, .inl l5)]) C hl dL_law_797 (by decide) rfl (fun ls hl => ?_)
        refine tk_aload_n C hl 3 dL_law_799 rfl ?_
        refine tk_aload_n C hl 1 dL_law_800 rfl ?_
        refine tk_iload C hl 6 dL_law_801 rfl ?_
        refine lv_iconst (v := 1) C.hx C.hb dL_law_803 (by decide) ?_
        refine lv_iadd C.hx C.hb dL_law_804 ?_
        refine tk_xl C hmn hS hw dL_law_805 (fun x77 hw => ?_)
        refine tk_aload_n C hl 1 dL_law_806 rfl ?_
        refine tk_iload C hl 6 dL_law_807 rfl ?_
        refine lv_iconst (v := 2) C.hx C.hb dL_law_809 (by decide) ?_
        refine lv_iadd C.hx C.hb dL_law_810 ?_
        refine tk_xl C hmn hS hw dL_law_811 (fun x78 hw => ?_)
        refine tk_aload_n C hl 1 dL_law_812 rfl ?_
        refine tk_iload C hl 6 dL_law_813 rfl ?_
        refine lv_iconst (v := 3) C.hx C.hb dL_law_815 (by decide) ?_
        refine lv_iadd C.hx C.hb dL_law_816 ?_
        refine tk_xl C hmn hS hw dL_law_817 (fun x79 hw => ?_)
        obtain ⟨hv, hw⟩ := hw
        refine tw_cbi C hS (tk_runV (As := [.inl x77, .inl x78, .inl x79]) C hR hS (wk_X4_setKey l C.hst G 2000 (by omega) _ _ _ _ _ _ σ hw) hv rfl q2279 q2280 q2281 q74 q2282 pd_X4_setKey ⟨by omega, by omega⟩ hl.1 rfl (tw_r8 [] (Nat.le_of_ble_eq_true rfl)) dL_law_818) (fun E q σ H locs hX hR hS hi => hX.elim) (fun x80 σ H locs hw hR hS => ?_)
        refine tk_istore (L' := [(7, .inl x80), (6, .inl x76), (0, .inr (some b)), (1, .inr l1), (2, .inr l2), (3, .inr l3), (4, .inr l4), (5, .inl l5)]) C hl dL_law_821 (by decide) rfl (fun ls hl => ?_)
        refine tk_aload_n C hl 4 dL_law_823 rfl ?_
        obtain ⟨hv, hw⟩ := hw
        refine tw_cbi C hS (tk_runV (As := []) C hR hS (wk_X4_thrown l C.hst G 2000 (by omega) _ _ _ σ hw) hv rfl q2147 q2148 q2149 q74 q2150 pd_X4_thrown ⟨by omega, by omega⟩ hl.1 rfl (tw_r8 [] (Nat.le_of_ble_eq_true rfl)) dL_law_824) (fun E q σ H locs hX hR hS hi => hX.elim) (fun x81 σ H locs hw hR hS => ?_)
        refine tk_iload C hl 1 dL_law_827 rfl ?_
        refine lv_icmp_eq (tgt := 834) C.hx C.hb dL_law_829 (by decide) (fun c829 => ?_) (fun c829 => ?_)
        · replace hw := hw.1 c829
          refine tk_iload C hl 1 dL_law_834 rfl ?_
          refine lv_if_ne (tgt := 851) C.hx C.hb dL_law_836 (by decide) (fun c836 => ?_) (fun c836 => ?_)
          · replace hw := hw.2 c836
            exact wk_L_law_b851 C hr hmn hnx hfr hRl hk28 _ _ _ _ _ σ _ _ _ hw hR hS (tk_sub hl [2, 3, 4, 5, 6, 7] rfl)
          · replace hw := hw.1 c836
            refine tk_aload_n C hl 5 dL_law_839 rfl ?_
            refine lv_iconst (v := 0) C.hx C.hb dL_law_840 (by decide) ?_
            refine tk_ll C hR hw dL_law_841 (fun x82 hw => ?_)
            refine tk_iload C hl 0 dL_law_842 rfl ?_
            refine lv_i2l (v := x80.toInt64) C.hx C.hb dL_law_844 rfl ?_
            refine tk_lcmp C dL_law_845 ?_
            refine lv_if_eq (tgt := 851) C.hx C.hb dL_law_846 (by decide) (fun c846 => ?_) (fun c846 => ?_)
            · replace hw := hw.1 c846
              exact wk_L_law_b851 C hr hmn hnx hfr hRl hk28 _ _ _ _ _ σ _ _ _ hw hR hS (tk_sub hl [2, 3, 4, 5, 6, 7] rfl)
            · replace hw := hw.2 c846
              refine lv_iconst (v := 0) C.hx C.hb dL_law_849 (by decide) ?_
              exact tw_lret C hS hr hmn dL_law_850 hw
        · replace hw := hw.2 c829
          refine lv_iconst (v := 0) C.hx C.hb dL_law_832 (by decide) ?_
          exact tw_lret C hS hr hmn dL_law_833 hw
      replace hw := hw.2 c44_9
      by_cases c44_10 : (x1 &&& 63) = 10
      · replace hw := hw.1 c44_10
        refine lv_tableIn (tgt := 854) (off := 810) C.hx C.hb dL_law_44 (by rw [c44_10]; decide) (by rw [c44_10]; decide) (by rw [c44_10]; rfl) (by decide) ?_
        refine tk_aload_n C hl 1 dL_law_854 rfl ?_
        refine tk_aload_n C hl 0 dL_law_855 rfl ?_
        refine tk_iload C hl 5 dL_law_856 rfl ?_
        refine lv_iconst (v := 1) C.hx C.hb dL_law_858 (by decide) ?_
        refine lv_iadd C.hx C.hb dL_law_859 ?_
        refine tk_xl C hmn hS hw dL_law_860 (fun x84 hw => ?_)
        refine tk_aload_n C hl 0 dL_law_861 rfl ?_
        refine tk_iload C hl 5 dL_law_862 rfl ?_
        refine lv_iconst (v := 2) C.hx C.hb dL_law_864 (by decide) ?_
        refine lv_iadd C.hx C.hb dL_law_865 ?_
        refine tk_xl C hmn hS hw dL_law_866 (fun x85 hw => ?_)
        refine tk_aload_n C hl 0 dL_law_867 rfl ?_
        refine tk_iload C hl 5 dL_law_868 rfl ?_
        refine lv_iconst (v := 3) C.hx C.hb dL_law_870 (by decide) ?_
        refine lv_iadd C.hx C.hb dL_law_871 ?_
        refine tk_xl C hmn hS hw dL_law_872 (fun x86 hw => ?_)
        refine tk_aload_n C hl 3 dL_law_873 rfl ?_
        refine tw_cbi C hS (tw_runSW (As := [.inr l1, .inl x84, .inl x85, .inl x86, .inr l3]) C hR hS (wk_X0_setValue l C.hst G 2000 (by omega) _ _ _ _ _ _ _ σ hw) q1701 q1702 q63 q1703 pd_X0_setValue ⟨by omega, by omega⟩ hl.1 rfl (tw_r8 [] (Nat.le_of_ble_eq_true rfl)) dL_law_874) (fun E q σ H locs hX hR hS hi => hX.elim) (fun x87 σ H locs hw hR hS => ?_)
        refine tk_istore (L' := [(6, .inl x87), (0, .inr (some b)), (1, .inr l1), (2, .inr l2), (3, .inr l3), (4, .inr l4), (5, .inl l5)]) C hl dL_law_877 (by decide) rfl (fun ls hl => ?_)
        refine tk_aload_n C hl 3 dL_law_879 rfl ?_
        refine tk_aload_n C hl 1 dL_law_880 rfl ?_
        refine tk_iload C hl 6 dL_law_881 rfl ?_
        refine lv_iconst (v := 1) C.hx C.hb dL_law_883 (by decide) ?_
        refine lv_iadd C.hx C.hb dL_law_884 ?_
        refine tk_xl C hmn hS hw dL_law_885 (fun x88 hw => ?_)
        refine tk_aload_n C hl 1 dL_law_886 rfl ?_
        refine tk_iload C hl 6 dL_law_887 rfl ?_
        refine lv_iconst (v := 2) C.hx C.hb dL_law_889 (by decide) ?_
        refine lv_iadd C.hx C.hb dL_law_890 ?_
        refine tk_xl C hmn hS hw dL_law_891 (fun x89 hw => ?_)
        refine tk_aload_n C hl 1 dL_law_892 rfl ?_
        refine tk_iload C hl 6 dL_law_893 rfl ?_
        refine lv_iconst (v := 3) C.hx C.hb dL_law_895 (by decide) ?_
        refine lv_iadd C.hx C.hb dL_law_896 ?_
        refine tk_xl C hmn hS hw dL_law_897 (fun x90 hw => ?_)
        obtain ⟨hv, hw⟩ := hw
        refine tw_cbi C hS (tk_runV (As := [.inl x88, .inl x89, .inl x90]) C hR hS (wk_X4_setValue l C.hst G 2000 (by omega) _ _ _ _ _ _ σ hw) hv rfl q2283 q2284 q2285 q74 q2286 pd_X4_setValue ⟨by omega, by omega⟩ hl.1 rfl (tw_r8 [] (Nat.le_of_ble_eq_true rfl)) dL_law_898) (fun E q σ H locs hX hR hS hi => hX.elim) (fun x91 σ H locs hw hR hS => ?_)
        refine tk_istore (L' := [(7, .inl x91), (6, .inl x87), (0, .inr (some b)), (1, .inr l1), (2, .inr l2), (3, .inr l3), (4, .inr l4), (5, .inl l5)]) C hl dL_law_901 (by decide) rfl (fun ls hl => ?_)
        refine tk_aload_n C hl 4 dL_law_903 rfl ?_
        obtain ⟨hv, hw⟩ := hw
        refine tw_cbi C hS (tk_runV (As := []) C hR hS (wk_X4_thrown l C.hst G 2000 (by omega) _ _ _ σ hw) hv rfl q2147 q2148 q2149 q74 q2150 pd_X4_thrown ⟨by omega, by omega⟩ hl.1 rfl (tw_r8 [] (Nat.le_of_ble_eq_true rfl)) dL_law_904) (fun E q σ H locs hX hR hS hi => hX.elim) (fun x92 σ H locs hw hR hS => ?_)
        refine tk_iload C hl 1 dL_law_907 rfl ?_
        refine lv_icmp_eq (tgt := 914) C.hx C.hb dL_law_909 (by decide) (fun c909 => ?_) (fun c909 => ?_)
        · replace hw := hw.1 c909
          refine tk_iload C hl 1 dL_law_914 rfl ?_
          refine lv_if_ne (tgt := 931) C.hx C.hb dL_law_916 (by decide) (fun c916 => ?_) (fun c916 => ?_)
          · replace hw := hw.2 c916
            exact wk_L_law_b931 C hr hmn hnx hfr hRl hk28 _ _ _ _ _ σ _ _ _ hw hR hS (tk_sub hl [2, 3, 4, 5, 6, 7] rfl)
          · replace hw := hw.1 c916
            refine tk_aload_n C hl 5 dL_law_919 rfl ?_
            refine lv_iconst (v := 0) C.hx C.hb dL_law_920 (by decide) ?_
            refine tk_ll C hR hw dL_law_921 (fun x93 hw => ?_)
            refine tk_iload C hl 0 dL_law_922 rfl ?_
            refine lv_i2l (v := x91.toInt64) C.hx C.hb dL_law_924 rfl ?_
            refine tk_lcmp C dL_law_925 ?_
            refine lv_if_eq (tgt := 931) C.hx C.hb dL_law_926 (by decide) (fun c926 => ?_) (fun c926 => ?_)
            · replace hw := hw.1 c926
              exact wk_L_law_b931 C hr hmn hnx hfr hRl hk28 _ _ _ _ _ σ _ _ _ hw hR hS (tk_sub hl [2, 3, 4, 5, 6, 7] rfl)
            · replace hw := hw.2 c926
              refine lv_iconst (v := 0) C.hx C.hb dL_law_929 (by decide) ?_
              exact tw_lret C hS hr hmn dL_law_930 hw
        · replace hw := hw.2 c909
          refine lv_iconst (v := 0) C.hx C.hb dL_law_912 (by decide) ?_
          exact tw_lret C hS hr hmn dL_law_913 hw
      replace hw := hw.2 c44_10
      by_cases c44_11 : (x1 &&& 63) = 11
      · replace hw := hw.1 c44_11
        refine lv_tableIn (tgt := 934) (off := 890) C.hx C.hb dL_law_44 (by rw [c44_11]; decide) (by rw [c44_11]; decide) (by rw [c44_11]; rfl) (by decide) ?_
        refine tk_aload_n C hl 1 dL_law_934 rfl ?_
        refine tk_aload_n C hl 0 dL_law_935 rfl ?_
        refine tk_iload C hl 5 dL_law_936 rfl ?_
        refine lv_iconst (v := 1) C.hx C.hb dL_law_938 (by decide) ?_
        refine lv_iadd C.hx C.hb dL_law_939 ?_
        refine tk_xl C hmn hS hw dL_law_940 (fun x95 hw => ?_)
        refine tk_aload_n C hl 0 dL_law_941 rfl ?_
        refine tk_iload C hl 5 dL_law_942 rfl ?_
        refine lv_iconst (v := 2) C.hx C.hb dL_law_944 (by decide) ?_
        refine lv_iadd C.hx C.hb dL_law_945 ?_
        refine tk_xl C hmn hS hw dL_law_946 (fun x96 hw => ?_)
        refine tk_aload_n C hl 3 dL_law_947 rfl ?_
        refine tw_cbi C hS (tw_runSW (As := [.inr l1, .inl x95, .inl x96, .inr l3]) C hR hS (wk_X0_copyTree l C.hst G 2000 (by omega) _ _ _ _ _ _ σ hw) q1708 q1709 q63 q1710 pd_X0_copyTree ⟨by omega, by omega⟩ hl.1 rfl (tw_r8 [] (Nat.le_of_ble_eq_true rfl)) dL_law_948) (fun E q σ H locs hX hR hS hi => hX.elim) (fun x97 σ H locs hw hR hS => ?_)
        refine tk_istore (L' := [(6, .inl x97), (0, .inr (some b)), (1, .inr l1), (2, .inr l2), (3, .inr l3), (4, .inr l4), (5, .inl l5)]) C hl dL_law_951 (by decide) rfl (fun ls hl => ?_)
        refine tk_aload_n C hl 3 dL_law_953 rfl ?_
        refine tk_aload_n C hl 1 dL_law_954 rfl ?_
        refine tk_iload C hl 6 dL_law_955 rfl ?_
        refine lv_iconst (v := 1) C.hx C.hb dL_law_957 (by decide) ?_
        refine lv_iadd C.hx C.hb dL_law_958 ?_
        refine tk_xl C hmn hS hw dL_law_959 (fun x98 hw => ?_)
        refine tk_aload_n C hl 1 dL_law_960 rfl ?_
        refine tk_iload C hl 6 dL_law_961 rfl ?_
        refine lv_iconst (v := 2) C.hx C.hb dL_law_963 (by decide) ?_
        refine lv_iadd C.hx C.hb dL_law_964 ?_
        refine tk_xl C hmn hS hw dL_law_965 (fun x99 hw => ?_)
        obtain ⟨hv, hw⟩ := hw
        refine tw_cbi C hS (tk_runV (As := [.inl x98, .inl x99]) C hR hS (wk_X4_copyTree l C.hst G 2000 (by omega) _ _ _ _ _ σ hw) hv rfl q2287 q2288 q2289 q74 q2290 pd_X4_copyTree ⟨by omega, by omega⟩ hl.1 rfl (tw_r8 [] (Nat.le_of_ble_eq_true rfl)) dL_law_966) (fun E q σ H locs hX hR hS hi => hX.elim) (fun x100 σ H locs hw hR hS => ?_)
        refine tk_istore (L' := [(7, .inl x100), (6, .inl x97), (0, .inr (some b)), (1, .inr l1), (2, .inr l2), (3, .inr l3), (4, .inr l4), (5, .inl l5)]) C hl dL_law_969 (by decide) rfl (fun ls hl => ?_)
        refine tk_aload_n C hl 4 dL_law_971 rfl ?_
        obtain ⟨hv, hw⟩ := hw
        refine tw_cbi C hS (tk_runV (As := []) C hR hS (wk_X4_thrown l C.hst G 2000 (by omega) _ _ _ σ hw) hv rfl q2147 q2148 q2149 q74 q2150 pd_X4_thrown ⟨by omega, by omega⟩ hl.1 rfl (tw_r8 [] (Nat.le_of_ble_eq_true rfl)) dL_law_972) (fun E q σ H locs hX hR hS hi => hX.elim) (fun x101 σ H locs hw hR hS => ?_)
        refine tk_iload C hl 1 dL_law_975 rfl ?_
        refine lv_icmp_eq (tgt := 982) C.hx C.hb dL_law_977 (by decide) (fun c977 => ?_) (fun c977 => ?_)
        · replace hw := hw.1 c977
          refine tk_iload C hl 1 dL_law_982 rfl ?_
          refine lv_if_ne (tgt := 999) C.hx C.hb dL_law_984 (by decide) (fun c984 => ?_) (fun c984 => ?_)
          · replace hw := hw.2 c984
            exact wk_L_law_b999 C hr hmn hnx hfr hRl hk28 _ _ _ _ _ σ _ _ _ hw hR hS (tk_sub hl [2, 3, 4, 5, 6, 7] rfl)
          · replace hw := hw.1 c984
            refine tk_aload_n C hl 5 dL_law_987 rfl ?_
            refine lv_iconst (v := 0) C.hx C.hb dL_law_988 (by decide) ?_
            refine tk_ll C hR hw dL_law_989 (fun x102 hw => ?_)
            refine tk_iload C hl 0 dL_law_990 rfl ?_
            refine lv_i2l (v := x100.toInt64) C.hx C.hb dL_law_992 rfl ?_
            refine tk_lcmp C dL_law_993 ?_
            refine lv_if_eq (tgt := 999) C.hx C.hb dL_law_994 (by decide) (fun c994 => ?_) (fun c994 => ?_)
            · replace hw := hw.1 c994
              exact wk_L_law_b999 C hr hmn hnx hfr hRl hk28 _ _ _ _ _ σ _ _ _ hw hR hS (tk_sub hl [2, 3, 4, 5, 6, 7] rfl)
            · replace hw := hw.2 c994
              refine lv_iconst (v := 0) C.hx C.hb dL_law_997 (by decide) ?_
              exact tw_lret C hS hr hmn dL_law_998 hw
        · replace hw := hw.2 c977
          refine lv_iconst (v := 0) C.hx C.hb dL_law_980 (by decide) ?_
          exact tw_lret C hS hr hmn dL_law_981 hw
      replace hw := hw.2 c44_11
      by_cases c44_12 : (x1 &&& 63) = 12
      · replace hw := hw.1 c44_12
        refine lv_tableIn (tgt := 1002) (off := 958) C.hx C.hb dL_law_44 (by rw [c44_12]; decide) (by rw [c44_12]; decide) (by rw [c44_12]; rfl) (by decide) ?_
        refine tk_aload_n C hl 1 dL_law_1002 rfl ?_
        refine tk_aload_n C hl 0 dL_law_1003 rfl ?_
        refine tk_iload C hl 5 dL_law_1004 rfl ?_
        refine lv_iconst (v := 1) C.hx C.hb dL_law_1006 (by decide) ?_
        refine lv_iadd C.hx C.hb dL_law_1007 ?_
        refine tk_xl C hmn hS hw dL_law_1008 (fun x104 hw => ?_)
        refine tk_aload_n C hl 3 dL_law_1009 rfl ?_
        refine tw_cbi C hS (tw_runSW (As := [.inr l1, .inl x104, .inr l3]) C hR hS (wk_X0_size l C.hst G 2000 (by omega) _ _ _ _ _ σ hw) q1716 q1717 q63 q1718 pd_X0_size ⟨by omega, by omega⟩ hl.1 rfl (tw_r8 [] (Nat.le_of_ble_eq_true rfl)) dL_law_1010) (fun E q σ H locs hX hR hS hi => hX.elim) (fun x105 σ H locs hw hR hS => ?_)
        refine tk_istore (L' := [(6, .inl x105), (0, .inr (some b)), (1, .inr l1), (2, .inr l2), (3, .inr l3), (4, .inr l4), (5, .inl l5)]) C hl dL_law_1013 (by decide) rfl (fun ls hl => ?_)
        refine tk_aload_n C hl 3 dL_law_1015 rfl ?_
        refine tk_aload_n C hl 1 dL_law_1016 rfl ?_
        refine tk_iload C hl 6 dL_law_1017 rfl ?_
        refine lv_iconst (v := 1) C.hx C.hb dL_law_1019 (by decide) ?_
        refine lv_iadd C.hx C.hb dL_law_1020 ?_
        refine tk_xl C hmn hS hw dL_law_1021 (fun x106 hw => ?_)
        obtain ⟨hv, hw⟩ := hw
        refine tw_cbi C hS (tk_runV (As := [.inl x106]) C hR hS (wk_X4_size l C.hst G 2000 (by omega) _ _ _ _ σ hw) hv rfl q2295 q2296 q2297 q74 q2298 pd_X4_size ⟨by omega, by omega⟩ hl.1 rfl (tw_r8 [] (Nat.le_of_ble_eq_true rfl)) dL_law_1022) (fun E q σ H locs hX hR hS hi => hX.elim) (fun x107 σ H locs hw hR hS => ?_)
        refine tk_istore (L' := [(7, .inl x107), (6, .inl x105), (0, .inr (some b)), (1, .inr l1), (2, .inr l2), (3, .inr l3), (4, .inr l4), (5, .inl l5)]) C hl dL_law_1025 (by decide) rfl (fun ls hl => ?_)
        refine tk_aload_n C hl 4 dL_law_1027 rfl ?_
        obtain ⟨hv, hw⟩ := hw
        refine tw_cbi C hS (tk_runV (As := []) C hR hS (wk_X4_thrown l C.hst G 2000 (by omega) _ _ _ σ hw) hv rfl q2147 q2148 q2149 q74 q2150 pd_X4_thrown ⟨by omega, by omega⟩ hl.1 rfl (tw_r8 [] (Nat.le_of_ble_eq_true rfl)) dL_law_1028) (fun E q σ H locs hX hR hS hi => hX.elim) (fun x108 σ H locs hw hR hS => ?_)
        refine tk_iload C hl 1 dL_law_1031 rfl ?_
        refine lv_icmp_eq (tgt := 1038) C.hx C.hb dL_law_1033 (by decide) (fun c1033 => ?_) (fun c1033 => ?_)
        · replace hw := hw.1 c1033
          refine tk_iload C hl 1 dL_law_1038 rfl ?_
          refine lv_if_ne (tgt := 1055) C.hx C.hb dL_law_1040 (by decide) (fun c1040 => ?_) (fun c1040 => ?_)
          · replace hw := hw.2 c1040
            exact wk_L_law_b1055 C hr hmn hnx hfr hRl hk28 _ _ _ _ _ σ _ _ _ hw hR hS (tk_sub hl [2, 3, 4, 5, 6, 7] rfl)
          · replace hw := hw.1 c1040
            refine tk_aload_n C hl 5 dL_law_1043 rfl ?_
            refine lv_iconst (v := 0) C.hx C.hb dL_law_1044 (by decide) ?_
            refine tk_ll C hR hw dL_law_1045 (fun x109 hw => ?_)
            refine tk_iload C hl 0 dL_law_1046 rfl ?_
            refine lv_i2l (v := x107.toInt64) C.hx C.hb dL_law_1048 rfl ?_
            refine tk_lcmp C dL_law_1049 ?_
            refine lv_if_eq (tgt := 1055) C.hx C.hb dL_law_1050 (by decide) (fun c1050 => ?_) (fun c1050 => ?_)
            · replace hw := hw.1 c1050
              exact wk_L_law_b1055 C hr hmn hnx hfr hRl hk28 _ _ _ _ _ σ _ _ _ hw hR hS (tk_sub hl [2, 3, 4, 5, 6, 7] rfl)
            · replace hw := hw.2 c1050
              refine lv_iconst (v := 0) C.hx C.hb dL_law_1053 (by decide) ?_
              exact tw_lret C hS hr hmn dL_law_1054 hw
        · replace hw := hw.2 c1033
          refine lv_iconst (v := 0) C.hx C.hb dL_law_1036 (by decide) ?_
          exact tw_lret C hS hr hmn dL_law_1037 hw
      replace hw := hw.2 c44_12
      by_cases c44_13 : (x1 &&& 63) = 13
      · replace hw := hw.1 c44_13
        refine lv_tableIn (tgt := 1058) (off := 1014) C.hx C.hb dL_law_44 (by rw [c44_13]; decide) (by rw [c44_13]; decide) (by rw [c44_13]; rfl) (by decide) ?_
        refine tk_aload_n C hl 1 dL_law_1058 rfl ?_
        refine tk_aload_n C hl 0 dL_law_1059 rfl ?_
        refine tk_iload C hl 5 dL_law_1060 rfl ?_
        refine lv_iconst (v := 1) C.hx C.hb dL_law_1062 (by decide) ?_
        refine lv_iadd C.hx C.hb dL_law_1063 ?_
        refine tk_xl C hmn hS hw dL_law_1064 (fun x111 hw => ?_)
        refine tk_aload_n C hl 0 dL_law_1065 rfl ?_
        refine tk_iload C hl 5 dL_law_1066 rfl ?_
        refine lv_iconst (v := 2) C.hx C.hb dL_law_1068 (by decide) ?_
        refine lv_iadd C.hx C.hb dL_law_1069 ?_
        refine tk_xl C hmn hS hw dL_law_1070 (fun x112 hw => ?_)
        refine tk_aload_n C hl 3 dL_law_1071 rfl ?_
        refine tw_cbi C hS (tw_runSW (As := [.inr l1, .inl x111, .inl x112, .inr l3]) C hR hS (wk_X0_label l C.hst G 2000 (by omega) _ _ _ _ _ _ σ hw) q1723 q1724 q63 q1725 pd_X0_label ⟨by omega, by omega⟩ hl.1 rfl (tw_r8 [] (Nat.le_of_ble_eq_true rfl)) dL_law_1072) (fun E q σ H locs hX hR hS hi => hX.elim) (fun x113 σ H locs hw hR hS => ?_)
        refine tk_istore (L' := [(6, .inl x113), (0, .inr (some b)), (1, .inr l1), (2, .inr l2), (3, .inr l3), (4, .inr l4), (5, .inl l5)]) C hl dL_law_1075 (by decide) rfl (fun ls hl => ?_)
        refine tk_aload_n C hl 3 dL_law_1077 rfl ?_
        refine tk_aload_n C hl 1 dL_law_1078 rfl ?_
        refine tk_iload C hl 6 dL_law_1079 rfl ?_
        refine lv_iconst (v := 1) C.hx C.hb dL_law_1081 (by decide) ?_
        refine lv_iadd C.hx C.hb dL_law_1082 ?_
        refine tk_xl C hmn hS hw dL_law_1083 (fun x114 hw => ?_)
        refine tk_aload_n C hl 1 dL_law_1084 rfl ?_
        refine tk_iload C hl 6 dL_law_1085 rfl ?_
        refine lv_iconst (v := 2) C.hx C.hb dL_law_1087 (by decide) ?_
        refine lv_iadd C.hx C.hb dL_law_1088 ?_
        refine tk_xl C hmn hS hw dL_law_1089 (fun x115 hw => ?_)
        obtain ⟨hv, hw⟩ := hw
        refine tw_cbi C hS (tk_runV (As := [.inl x114, .inl x115]) C hR hS (wk_X4_label l C.hst G 2000 (by omega) _ _ _ _ _ σ hw) hv rfl q2299 q2300 q2301 q74 q2302 pd_X4_label ⟨by omega, by omega⟩ hl.1 rfl (tw_r8 [] (Nat.le_of_ble_eq_true rfl)) dL_law_1090) (fun E q σ H locs hX hR hS hi => hX.elim) (fun x116 σ H locs hw hR hS => ?_)
        refine tk_istore (L' := [(7, .inl x116), (6, .inl x113), (0, .inr (some b)), (1, .inr l1), (2, .inr l2), (3, .inr l3), (4, .inr l4), (5, .inl l5)]) C hl dL_law_1093 (by decide) rfl (fun ls hl => ?_)
        refine tk_aload_n C hl 4 dL_law_1095 rfl ?_
        obtain ⟨hv, hw⟩ := hw
        refine tw_cbi C hS (tk_runV (As := []) C hR hS (wk_X4_thrown l C.hst G 2000 (by omega) _ _ _ σ hw) hv rfl q2147 q2148 q2149 q74 q2150 pd_X4_thrown ⟨by omega, by omega⟩ hl.1 rfl (tw_r8 [] (Nat.le_of_ble_eq_true rfl)) dL_law_1096) (fun E q σ H locs hX hR hS hi => hX.elim) (fun x117 σ H locs hw hR hS => ?_)
        refine tk_iload C hl 1 dL_law_1099 rfl ?_
        refine lv_icmp_eq (tgt := 1106) C.hx C.hb dL_law_1101 (by decide) (fun c1101 => ?_) (fun c1101 => ?_)
        · replace hw := hw.1 c1101
          refine tk_iload C hl 1 dL_law_1106 rfl ?_
          refine lv_if_ne (tgt := 1123) C.hx C.hb dL_law_1108 (by decide) (fun c1108 => ?_) (fun c1108 => ?_)
          · replace hw := hw.2 c1108
            exact wk_L_law_b1123 C hr hmn hnx hfr hRl hk28 _ _ _ _ _ σ _ _ _ hw hR hS (tk_sub hl [2, 3, 4, 5, 6, 7] rfl)
          · replace hw := hw.1 c1108
            refine tk_aload_n C hl 5 dL_law_1111 rfl ?_
            refine lv_iconst (v := 0) C.hx C.hb dL_law_1112 (by decide) ?_
            refine tk_ll C hR hw dL_law_1113 (fun x118 hw => ?_)
            refine tk_iload C hl 0 dL_law_1114 rfl ?_
            refine lv_i2l (v := x116.toInt64) C.hx C.hb dL_law_1116 rfl ?_
            refine tk_lcmp C dL_law_1117 ?_
            refine lv_if_eq (tgt := 1123) C.hx C.hb dL_law_1118 (by decide) (fun c1118 => ?_) (fun c1118 => ?_)
            · replace hw := hw.1 c1118
              exact wk_L_law_b1123 C hr hmn hnx hfr hRl hk28 _ _ _ _ _ σ _ _ _ hw hR hS (tk_sub hl [2, 3, 4, 5, 6, 7] rfl)
            · replace hw := hw.2 c1118
              refine lv_iconst (v := 0) C.hx C.hb dL_law_1121 (by decide) ?_
              exact tw_lret C hS hr hmn dL_law_1122 hw
        · replace hw := hw.2 c1101
          refine lv_iconst (v := 0) C.hx C.hb dL_law_1104 (by decide) ?_
          exact tw_lret C hS hr hmn dL_law_1105 hw
      replace hw := hw.2 c44_13
      by_cases c44_14 : (x1 &&& 63) = 14
      · replace hw := hw.1 c44_14
        refine lv_tableIn (tgt := 1126) (off := 1082) C.hx C.hb dL_law_44 (by rw [c44_14]; decide) (by rw [c44_14]; decide) (by rw [c44_14]; rfl) (by decide) ?_
        refine tk_aload_n C hl 1 dL_law_1126 rfl ?_
        refine tk_aload_n C hl 0 dL_law_1127 rfl ?_
        refine tk_iload C hl 5 dL_law_1128 rfl ?_
        refine lv_iconst (v := 1) C.hx C.hb dL_law_1130 (by decide) ?_
        refine lv_iadd C.hx C.hb dL_law_1131 ?_
        refine tk_xl C hmn hS hw dL_law_1132 (fun x120 hw => ?_)
        refine tk_aload_n C hl 0 dL_law_1133 rfl ?_
        refine tk_iload C hl 5 dL_law_1134 rfl ?_
        refine lv_iconst (v := 2) C.hx C.hb dL_law_1136 (by decide) ?_
        refine lv_iadd C.hx C.hb dL_law_1137 ?_
        refine tk_xl C hmn hS hw dL_law_1138 (fun x121 hw => ?_)
        refine tk_aload_n C hl 3 dL_law_1139 rfl ?_
        refine tw_cbi C hS (tw_runSW (As := [.inr l1, .inl x120, .inl x121, .inr l3]) C hR hS (wk_X0_key l C.hst G 2000 (by omega) _ _ _ _ _ _ σ hw) q1730 q1731 q63 q1732 pd_X0_key ⟨by omega, by omega⟩ hl.1 rfl (tw_r8 [] (Nat.le_of_ble_eq_true rfl)) dL_law_1140) (fun E q σ H locs hX hR hS hi => hX.elim) (fun x122 σ H locs hw hR hS => ?_)
        refine tk_istore (L' := [(6, .inl x122), (0, .inr (some b)), (1, .inr l1), (2, .inr l2), (3, .inr l3), (4, .inr l4), (5, .inl l5)]) C hl dL_law_1143 (by decide) rfl (fun ls hl => ?_)
        refine tk_aload_n C hl 3 dL_law_1145 rfl ?_
        refine tk_aload_n C hl 1 dL_law_1146 rfl ?_
        refine tk_iload C hl 6 dL_law_1147 rfl ?_
        refine lv_iconst (v := 1) C.hx C.hb dL_law_1149 (by decide) ?_
        refine lv_iadd C.hx C.hb dL_law_1150 ?_
        refine tk_xl C hmn hS hw dL_law_1151 (fun x123 hw => ?_)
        refine tk_aload_n C hl 1 dL_law_1152 rfl ?_
        refine tk_iload C hl 6 dL_law_1153 rfl ?_
        refine lv_iconst (v := 2) C.hx C.hb dL_law_1155 (by decide) ?_
        refine lv_iadd C.hx C.hb dL_law_1156 ?_
        refine tk_xl C hmn hS hw dL_law_1157 (fun x124 hw => ?_)
        obtain ⟨hv, hw⟩ := hw
        refine tw_cbi C hS (tk_runV (As := [.inl x123, .inl x124]) C hR hS (wk_X4_key l C.hst G 2000 (by omega) _ _ _ _ _ σ hw) hv rfl q2303 q2304 q2305 q74 q2306 pd_X4_key ⟨by omega, by omega⟩ hl.1 rfl (tw_r8 [] (Nat.le_of_ble_eq_true rfl)) dL_law_1158) (fun E q σ H locs hX hR hS hi => hX.elim) (fun x125 σ H locs hw hR hS => ?_)
        refine tk_istore (L' := [(7, .inl x125), (6, .inl x122), (0, .inr (some b)), (1, .inr l1), (2, .inr l2), (3, .inr l3), (4, .inr l4), (5, .inl l5)]) C hl dL_law_1161 (by decide) rfl (fun ls hl => ?_)
        refine tk_aload_n C hl 4 dL_law_1163 rfl ?_
        obtain ⟨hv, hw⟩ := hw
        refine tw_cbi C hS (tk_runV (As := []) C hR hS (wk_X4_thrown l C.hst G 2000 (by omega) _ _ _ σ hw) hv rfl q2147 q2148 q2149 q74 q2150 pd_X4_thrown ⟨by omega, by omega⟩ hl.1 rfl (tw_r8 [] (Nat.le_of_ble_eq_true rfl)) dL_law_1164) (fun E q σ H locs hX hR hS hi => hX.elim) (fun x126 σ H locs hw hR hS => ?_)
        refine tk_iload C hl 1 dL_law_1167 rfl ?_
        refine lv_icmp_eq (tgt := 1174) C.hx C.hb dL_law_1169 (by decide) (fun c1169 => ?_) (fun c1169 => ?_)
        · replace hw := hw.1 c1169
          refine tk_iload C hl 1 dL_law_1174 rfl ?_
          refine lv_if_ne (tgt := 1191) C.hx C.hb dL_law_1176 (by decide) (fun c1176 => ?_) (fun c1176 => ?_)
          · replace hw := hw.2 c1176
            exact wk_L_law_b1191 C hr hmn hnx hfr hRl hk28 _ _ _ _ _ σ _ _ _ hw hR hS (tk_sub hl [2, 3, 4, 5, 6, 7] rfl)
          · replace hw := hw.1 c1176
            refine tk_aload_n C hl 5 dL_law_1179 rfl ?_
            refine lv_iconst (v := 0) C.hx C.hb dL_law_1180 (by decide) ?_
            refine tk_ll C hR hw dL_law_1181 (fun x127 hw => ?_)
            refine tk_iload C hl 0 dL_law_1182 rfl ?_
            refine lv_i2l (v := x125.toInt64) C.hx C.hb dL_law_1184 rfl ?_
            refine tk_lcmp C dL_law_1185 ?_
            refine lv_if_eq (tgt := 1191) C.hx C.hb dL_law_1186 (by decide) (fun c1186 => ?_) (fun c1186 => ?_)
            · replace hw := hw.1 c1186
              exact wk_L_law_b1191 C hr hmn hnx hfr hRl hk28 _ _ _ _ _ σ _ _ _ hw hR hS (tk_sub hl [2, 3, 4, 5, 6, 7] rfl)
            · replace hw := hw.2 c1186
              refine lv_iconst (v := 0) C.hx C.hb dL_law_1189 (by decide) ?_
              exact tw_lret C hS hr hmn dL_law_1190 hw
        · replace hw := hw.2 c1169
          refine lv_iconst (v := 0) C.hx C.hb dL_law_1172 (by decide) ?_
          exact tw_lret C hS hr hmn dL_law_1173 hw
      replace hw := hw.2 c44_14
      by_cases c44_15 : (x1 &&& 63) = 15
      · replace hw := hw.1 c44_15
        refine lv_tableIn (tgt := 1194) (off := 1150) C.hx C.hb dL_law_44 (by rw [c44_15]; decide) (by rw [c44_15]; decide) (by rw [c44_15]; rfl) (by decide) ?_
        refine tk_aload_n C hl 1 dL_law_1194 rfl ?_
        refine tk_aload_n C hl 0 dL_law_1195 rfl ?_
        refine tk_iload C hl 5 dL_law_1196 rfl ?_
        refine lv_iconst (v := 1) C.hx C.hb dL_law_1198 (by decide) ?_
        refine lv_iadd C.hx C.hb dL_law_1199 ?_
        refine tk_xl C hmn hS hw dL_law_1200 (fun x129 hw => ?_)
        refine tk_aload_n C hl 0 dL_law_1201 rfl ?_
        refine tk_iload C hl 5 dL_law_1202 rfl ?_
        refine lv_iconst (v := 2) C.hx C.hb dL_law_1204 (by decide) ?_
        refine lv_iadd C.hx C.hb dL_law_1205 ?_
        refine tk_xl C hmn hS hw dL_law_1206 (fun x130 hw => ?_)
        refine tk_aload_n C hl 3 dL_law_1207 rfl ?_
        refine tw_cbi C hS (tw_runSW (As := [.inr l1, .inl x129, .inl x130, .inr l3]) C hR hS (wk_X0_value l C.hst G 2000 (by omega) _ _ _ _ _ _ σ hw) q1737 q1738 q63 q1739 pd_X0_value ⟨by omega, by omega⟩ hl.1 rfl (tw_r8 [] (Nat.le_of_ble_eq_true rfl)) dL_law_1208) (fun E q σ H locs hX hR hS hi => hX.elim) (fun x131 σ H locs hw hR hS => ?_)
        refine tk_istore (L' := [(6, .inl x131), (0, .inr (some b)), (1, .inr l1), (2, .inr l2), (3, .inr l3), (4, .inr l4), (5, .inl l5)]) C hl dL_law_1211 (by decide) rfl (fun ls hl => ?_)
        refine tk_aload_n C hl 3 dL_law_1213 rfl ?_
        refine tk_aload_n C hl 1 dL_law_1214 rfl ?_
        refine tk_iload C hl 6 dL_law_1215 rfl ?_
        refine lv_iconst (v := 1) C.hx C.hb dL_law_1217 (by decide) ?_
        refine lv_iadd C.hx C.hb dL_law_1218 ?_
        refine tk_xl C hmn hS hw dL_law_1219 (fun x132 hw => ?_)
        refine tk_aload_n C hl 1 dL_law_1220 rfl ?_
        refine tk_iload C hl 6 dL_law_1221 rfl ?_
        refine lv_iconst (v := 2) C.hx C.hb dL_law_1223 (by decide) ?_
        refine lv_iadd C.hx C.hb dL_law_1224 ?_
        refine tk_xl C hmn hS hw dL_law_1225 (fun x133 hw => ?_)
        obtain ⟨hv, hw⟩ := hw
        refine tw_cbi C hS (tk_runV (As := [.inl x132, .inl x133]) C hR hS (wk_X4_value l C.hst G 2000 (by omega) _ _ _ _ _ σ hw) hv rfl q2307 q2308 q2309 q74 q2310 pd_X4_value ⟨by omega, by omega⟩ hl.1 rfl (tw_r8 [] (Nat.le_of_ble_eq_true rfl)) dL_law_1226) (fun E q σ H locs hX hR hS hi => hX.elim) (fun x134 σ H locs hw hR hS => ?_)
        refine tk_istore (L' := [(7, .inl x134), (6, .inl x131), (0, .inr (some b)), (1, .inr l1), (2, .inr l2), (3, .inr l3), (4, .inr l4), (5, .inl l5)]) C hl dL_law_1229 (by decide) rfl (fun ls hl => ?_)
        refine tk_aload_n C hl 4 dL_law_1231 rfl ?_
        obtain ⟨hv, hw⟩ := hw
        refine tw_cbi C hS (tk_runV (As := []) C hR hS (wk_X4_thrown l C.hst G 2000 (by omega) _ _ _ σ hw) hv rfl q2147 q2148 q2149 q74 q2150 pd_X4_thrown ⟨by omega, by omega⟩ hl.1 rfl (tw_r8 [] (Nat.le_of_ble_eq_true rfl)) dL_law_1232) (fun E q σ H locs hX hR hS hi => hX.elim) (fun x135 σ H locs hw hR hS => ?_)
        refine tk_iload C hl 1 dL_law_1235 rfl ?_
        refine lv_icmp_eq (tgt := 1242) C.hx C.hb dL_law_1237 (by decide) (fun c1237 => ?_) (fun c1237 => ?_)
        · replace hw := hw.1 c1237
          refine tk_iload C hl 1 dL_law_1242 rfl ?_
          refine lv_if_ne (tgt := 1259) C.hx C.hb dL_law_1244 (by decide) (fun c1244 => ?_) (fun c1244 => ?_)
          · replace hw := hw.2 c1244
            exact wk_L_law_b1259 C hr hmn hnx hfr hRl hk28 _ _ _ _ _ σ _ _ _ hw hR hS (tk_sub hl [2, 3, 4, 5, 6, 7] rfl)
          · replace hw := hw.1 c1244
            refine tk_aload_n C hl 5 dL_law_1247 rfl ?_
            refine lv_iconst (v := 0) C.hx C.hb dL_law_1248 (by decide) ?_
            refine tk_ll C hR hw dL_law_1249 (fun x136 hw => ?_)
            refine tk_iload C hl 0 dL_law_1250 rfl ?_
            refine lv_i2l (v := x134.toInt64) C.hx C.hb dL_law_1252 rfl ?_
            refine tk_lcmp C dL_law_1253 ?_
            refine lv_if_eq (tgt := 1259) C.hx C.hb dL_law_1254 (by decide) (fun c1254 => ?_) (fun c1254 => ?_)
            · replace hw := hw.1 c1254
              exact wk_L_law_b1259 C hr hmn hnx hfr hRl hk28 _ _ _ _ _ σ _ _ _ hw hR hS (tk_sub hl [2, 3, 4, 5, 6, 7] rfl)
            · replace hw := hw.2 c1254
              refine lv_iconst (v := 0) C.hx C.hb dL_law_1257 (by decide) ?_
              exact tw_lret C hS hr hmn dL_law_1258 hw
        · replace hw := hw.2 c1237
          refine lv_iconst (v := 0) C.hx C.hb dL_law_1240 (by decide) ?_
          exact tw_lret C hS hr hmn dL_law_1241 hw
      replace hw := hw.2 c44_15
      by_cases c44_16 : (x1 &&& 63) = 16
      · replace hw := hw.1 c44_16
        refine lv_tableIn (tgt := 1262) (off := 1218) C.hx C.hb dL_law_44 (by rw [c44_16]; decide) (by rw [c44_16]; decide) (by rw [c44_16]; rfl) (by decide) ?_
        refine tk_aload_n C hl 1 dL_law_1262 rfl ?_
        refine tk_aload_n C hl 0 dL_law_1263 rfl ?_
        refine tk_iload C hl 5 dL_law_1264 rfl ?_
        refine lv_iconst (v := 1) C.hx C.hb dL_law_1266 (by decide) ?_
        refine lv_iadd C.hx C.hb dL_law_1267 ?_
        refine tk_xl C hmn hS hw dL_law_1268 (fun x138 hw => ?_)
        refine tk_aload_n C hl 0 dL_law_1269 rfl ?_
        refine tk_iload C hl 5 dL_law_1270 rfl ?_
        refine lv_iconst (v := 2) C.hx C.hb dL_law_1272 (by decide) ?_
        refine lv_iadd C.hx C.hb dL_law_1273 ?_
        refine tk_xl C hmn hS hw dL_law_1274 (fun x139 hw => ?_)
        refine tk_aload_n C hl 3 dL_law_1275 rfl ?_
        refine tw_cbi C hS (tw_runSW (As := [.inr l1, .inl x138, .inl x139, .inr l3]) C hR hS (wk_X0_children l C.hst G 2000 (by omega) _ _ _ _ _ _ σ hw) q1744 q1745 q63 q1746 pd_X0_children ⟨by omega, by omega⟩ hl.1 rfl (tw_r8 [] (Nat.le_of_ble_eq_true rfl)) dL_law_1276) (fun E q σ H locs hX hR hS hi => hX.elim) (fun x140 σ H locs hw hR hS => ?_)
        refine tk_istore (L' := [(6, .inl x140), (0, .inr (some b)), (1, .inr l1), (2, .inr l2), (3, .inr l3), (4, .inr l4), (5, .inl l5)]) C hl dL_law_1279 (by decide) rfl (fun ls hl => ?_)
        refine tk_aload_n C hl 3 dL_law_1281 rfl ?_
        refine tk_aload_n C hl 1 dL_law_1282 rfl ?_
        refine tk_iload C hl 6 dL_law_1283 rfl ?_
        refine lv_iconst (v := 1) C.hx C.hb dL_law_1285 (by decide) ?_
        refine lv_iadd C.hx C.hb dL_law_1286 ?_
        refine tk_xl C hmn hS hw dL_law_1287 (fun x141 hw => ?_)
        refine tk_aload_n C hl 1 dL_law_1288 rfl ?_
        refine tk_iload C hl 6 dL_law_1289 rfl ?_
        refine lv_iconst (v := 2) C.hx C.hb dL_law_1291 (by decide) ?_
        refine lv_iadd C.hx C.hb dL_law_1292 ?_
        refine tk_xl C hmn hS hw dL_law_1293 (fun x142 hw => ?_)
        obtain ⟨hv, hw⟩ := hw
        refine tw_cbi C hS (tk_runV (As := [.inl x141, .inl x142]) C hR hS (wk_X4_children l C.hst G 2000 (by omega) _ _ _ _ _ σ hw) hv rfl q2311 q2312 q2313 q74 q2314 pd_X4_children ⟨by omega, by omega⟩ hl.1 rfl (tw_r8 [] (Nat.le_of_ble_eq_true rfl)) dL_law_1294) (fun E q σ H locs hX hR hS hi => hX.elim) (fun x143 σ H locs hw hR hS => ?_)
        refine tk_istore (L' := [(7, .inl x143), (6, .inl x140), (0, .inr (some b)), (1, .inr l1), (2, .inr l2), (3, .inr l3), (4, .inr l4), (5, .inl l5)]) C hl dL_law_1297 (by decide) rfl (fun ls hl => ?_)
        refine tk_aload_n C hl 4 dL_law_1299 rfl ?_
        obtain ⟨hv, hw⟩ := hw
        refine tw_cbi C hS (tk_runV (As := []) C hR hS (wk_X4_thrown l C.hst G 2000 (by omega) _ _ _ σ hw) hv rfl q2147 q2148 q2149 q74 q2150 pd_X4_thrown ⟨by omega, by omega⟩ hl.1 rfl (tw_r8 [] (Nat.le_of_ble_eq_true rfl)) dL_law_1300) (fun E q σ H locs hX hR hS hi => hX.elim) (fun x144 σ H locs hw hR hS => ?_)
        refine tk_iload C hl 1 dL_law_1303 rfl ?_
        refine lv_icmp_eq (tgt := 1310) C.hx C.hb dL_law_1305 (by decide) (fun c1305 => ?_) (fun c1305 => ?_)
        · replace hw := hw.1 c1305
          refine tk_iload C hl 1 dL_law_1310 rfl ?_
          refine lv_if_ne (tgt := 1327) C.hx C.hb dL_law_1312 (by decide) (fun c1312 => ?_) (fun c1312 => ?_)
          · replace hw := hw.2 c1312
            exact wk_L_law_b1327 C hr hmn hnx hfr hRl hk28 _ _ _ _ _ σ _ _ _ hw hR hS (tk_sub hl [2, 3, 4, 5, 6, 7] rfl)
          · replace hw := hw.1 c1312
            refine tk_aload_n C hl 5 dL_law_1315 rfl ?_
            refine lv_iconst (v := 0) C.hx C.hb dL_law_1316 (by decide) ?_
            refine tk_ll C hR hw dL_law_1317 (fun x145 hw => ?_)
            refine tk_iload C hl 0 dL_law_1318 rfl ?_
            refine lv_i2l (v := x143.toInt64) C.hx C.hb dL_law_1320 rfl ?_
            refine tk_lcmp C dL_law_1321 ?_
            refine lv_if_eq (tgt := 1327) C.hx C.hb dL_law_1322 (by decide) (fun c1322 => ?_) (fun c1322 => ?_)
            · replace hw := hw.1 c1322
              exact wk_L_law_b1327 C hr hmn hnx hfr hRl hk28 _ _ _ _ _ σ _ _ _ hw hR hS (tk_sub hl [2, 3, 4, 5, 6, 7] rfl)
            · replace hw := hw.2 c1322
              refine lv_iconst (v := 0) C.hx C.hb dL_law_1325 (by decide) ?_
              exact tw_lret C hS hr hmn dL_law_1326 hw
        · replace hw := hw.2 c1305
          refine lv_iconst (v := 0) C.hx C.hb dL_law_1308 (by decide) ?_
          exact tw_lret C hS hr hmn dL_law_1309 hw
      replace hw := hw.2 c44_16
      by_cases c44_17 : (x1 &&& 63) = 17
      · replace hw := hw.1 c44_17
        refine lv_tableIn (tgt := 1330) (off := 1286) C.hx C.hb dL_law_44 (by rw [c44_17]; decide) (by rw [c44_17]; decide) (by rw [c44_17]; rfl) (by decide) ?_
        refine tk_aload_n C hl 1 dL_law_1330 rfl ?_
        refine tk_aload_n C hl 0 dL_law_1331 rfl ?_
        refine tk_iload C hl 5 dL_law_1332 rfl ?_
        refine lv_iconst (v := 1) C.hx C.hb dL_law_1334 (by decide) ?_
        refine lv_iadd C.hx C.hb dL_law_1335 ?_
        refine tk_xl C hmn hS hw dL_law_1336 (fun x147 hw => ?_)
        refine tk_aload_n C hl 0 dL_law_1337 rfl ?_
        refine tk_iload C hl 5 dL_law_1338 rfl ?_
        refine lv_iconst (v := 2) C.hx C.hb dL_law_1340 (by decide) ?_
        refine lv_iadd C.hx C.hb dL_law_1341 ?_
        refine tk_xl C hmn hS hw dL_law_1342 (fun x148 hw => ?_)
        refine tk_aload_n C hl 3 dL_law_1343 rfl ?_
        refine tw_cbi C hS (tw_runSW (As := [.inr l1, .inl x147, .inl x148, .inr l3]) C hR hS (wk_X0_parent l C.hst G 2000 (by omega) _ _ _ _ _ _ σ hw) q1751 q1752 q63 q1753 pd_X0_parent ⟨by omega, by omega⟩ hl.1 rfl (tw_r8 [] (Nat.le_of_ble_eq_true rfl)) dL_law_1344) (fun E q σ H locs hX hR hS hi => hX.elim) (fun x149 σ H locs hw hR hS => ?_)
        refine tk_istore (L' := [(6, .inl x149), (0, .inr (some b)), (1, .inr l1), (2, .inr l2), (3, .inr l3), (4, .inr l4), (5, .inl l5)]) C hl dL_law_1347 (by decide) rfl (fun ls hl => ?_)
        refine tk_aload_n C hl 3 dL_law_1349 rfl ?_
        refine tk_aload_n C hl 1 dL_law_1350 rfl ?_
        refine tk_iload C hl 6 dL_law_1351 rfl ?_
        refine lv_iconst (v := 1) C.hx C.hb dL_law_1353 (by decide) ?_
        refine lv_iadd C.hx C.hb dL_law_1354 ?_
        refine tk_xl C hmn hS hw dL_law_1355 (fun x150 hw => ?_)
        refine tk_aload_n C hl 1 dL_law_1356 rfl ?_
        refine tk_iload C hl 6 dL_law_1357 rfl ?_
        refine lv_iconst (v := 2) C.hx C.hb dL_law_1359 (by decide) ?_
        refine lv_iadd C.hx C.hb dL_law_1360 ?_
        refine tk_xl C hmn hS hw dL_law_1361 (fun x151 hw => ?_)
        obtain ⟨hv, hw⟩ := hw
        refine tw_cbi C hS (tk_runV (As := [.inl x150, .inl x151]) C hR hS (wk_X4_parent l C.hst G 2000 (by omega) _ _ _ _ _ σ hw) hv rfl q2315 q2316 q2317 q74 q2318 pd_X4_parent ⟨by omega, by omega⟩ hl.1 rfl (tw_r8 [] (Nat.le_of_ble_eq_true rfl)) dL_law_1362) (fun E q σ H locs hX hR hS hi => hX.elim) (fun x152 σ H locs hw hR hS => ?_)
        refine tk_istore (L' := [(7, .inl x152), (6, .inl x149), (0, .inr (some b)), (1, .inr l1), (2, .inr l2), (3, .inr l3), (4, .inr l4), (5, .inl l5)]) C hl dL_law_1365 (by decide) rfl (fun ls hl => ?_)
        refine tk_aload_n C hl 4 dL_law_1367 rfl ?_
        obtain ⟨hv, hw⟩ := hw
        refine tw_cbi C hS (tk_runV (As := []) C hR hS (wk_X4_thrown l C.hst G 2000 (by omega) _ _ _ σ hw) hv rfl q2147 q2148 q2149 q74 q2150 pd_X4_thrown ⟨by omega, by omega⟩ hl.1 rfl (tw_r8 [] (Nat.le_of_ble_eq_true rfl)) dL_law_1368) (fun E q σ H locs hX hR hS hi => hX.elim) (fun x153 σ H locs hw hR hS => ?_)
        refine tk_iload C hl 1 dL_law_1371 rfl ?_
        refine lv_icmp_eq (tgt := 1378) C.hx C.hb dL_law_1373 (by decide) (fun c1373 => ?_) (fun c1373 => ?_)
        · replace hw := hw.1 c1373
          refine tk_iload C hl 1 dL_law_1378 rfl ?_
          refine lv_if_ne (tgt := 1395) C.hx C.hb dL_law_1380 (by decide) (fun c1380 => ?_) (fun c1380 => ?_)
          · replace hw := hw.2 c1380
            exact wk_L_law_b1395 C hr hmn hnx hfr hRl hk28 _ _ _ _ _ σ _ _ _ hw hR hS (tk_sub hl [2, 3, 4, 5, 6, 7] rfl)
          · replace hw := hw.1 c1380
            refine tk_aload_n C hl 5 dL_law_1383 rfl ?_
            refine lv_iconst (v := 0) C.hx C.hb dL_law_1384 (by decide) ?_
            refine tk_ll C hR hw dL_law_1385 (fun x154 hw => ?_)
            refine tk_iload C hl 0 dL_law_1386 rfl ?_
            refine lv_i2l (v := x152.toInt64) C.hx C.hb dL_law_1388 rfl ?_
            refine tk_lcmp C dL_law_1389 ?_
            refine lv_if_eq (tgt := 1395) C.hx C.hb dL_law_1390 (by decide) (fun c1390 => ?_) (fun c1390 => ?_)
            · replace hw := hw.1 c1390
              exact wk_L_law_b1395 C hr hmn hnx hfr hRl hk28 _ _ _ _ _ σ _ _ _ hw hR hS (tk_sub hl [2, 3, 4, 5, 6, 7] rfl)
            · replace hw := hw.2 c1390
              refine lv_iconst (v := 0) C.hx C.hb dL_law_1393 (by decide) ?_
              exact tw_lret C hS hr hmn dL_law_1394 hw
        · replace hw := hw.2 c1373
          refine lv_iconst (v := 0) C.hx C.hb dL_law_1376 (by decide) ?_
          exact tw_lret C hS hr hmn dL_law_1377 hw
      replace hw := hw.2 c44_17
      by_cases c44_18 : (x1 &&& 63) = 18
      · replace hw := hw.1 c44_18
        refine lv_tableIn (tgt := 1398) (off := 1354) C.hx C.hb dL_law_44 (by rw [c44_18]; decide) (by rw [c44_18]; decide) (by rw [c44_18]; rfl) (by decide) ?_
        refine tk_aload_n C hl 1 dL_law_1398 rfl ?_
        refine tk_aload_n C hl 0 dL_law_1399 rfl ?_
        refine tk_iload C hl 5 dL_law_1400 rfl ?_
        refine lv_iconst (v := 1) C.hx C.hb dL_law_1402 (by decide) ?_
        refine lv_iadd C.hx C.hb dL_law_1403 ?_
        refine tk_xl C hmn hS hw dL_law_1404 (fun x156 hw => ?_)
        refine tk_aload_n C hl 0 dL_law_1405 rfl ?_
        refine tk_iload C hl 5 dL_law_1406 rfl ?_
        refine lv_iconst (v := 2) C.hx C.hb dL_law_1408 (by decide) ?_
        refine lv_iadd C.hx C.hb dL_law_1409 ?_
        refine tk_xl C hmn hS hw dL_law_1410 (fun x157 hw => ?_)
        refine tk_aload_n C hl 3 dL_law_1411 rfl ?_
        refine tw_cbi C hS (tw_runSW (As := [.inr l1, .inl x156, .inl x157, .inr l3]) C hR hS (wk_X0_subtreeSize l C.hst G 2000 (by omega) _ _ _ _ _ _ σ hw) q1758 q1759 q63 q1760 pd_X0_subtreeSize ⟨by omega, by omega⟩ hl.1 rfl (tw_r8 [] (Nat.le_of_ble_eq_true rfl)) dL_law_1412) (fun E q σ H locs hX hR hS hi => hX.elim) (fun x158 σ H locs hw hR hS => ?_)
        refine tk_istore (L' := [(6, .inl x158), (0, .inr (some b)), (1, .inr l1), (2, .inr l2), (3, .inr l3), (4, .inr l4), (5, .inl l5)]) C hl dL_law_1415 (by decide) rfl (fun ls hl => ?_)
        refine tk_aload_n C hl 3 dL_law_1417 rfl ?_
        refine tk_aload_n C hl 1 dL_law_1418 rfl ?_
        refine tk_iload C hl 6 dL_law_1419 rfl ?_
        refine lv_iconst (v := 1) C.hx C.hb dL_law_1421 (by decide) ?_
        refine lv_iadd C.hx C.hb dL_law_1422 ?_
        refine tk_xl C hmn hS hw dL_law_1423 (fun x159 hw => ?_)
        refine tk_aload_n C hl 1 dL_law_1424 rfl ?_
        refine tk_iload C hl 6 dL_law_1425 rfl ?_
        refine lv_iconst (v := 2) C.hx C.hb dL_law_1427 (by decide) ?_
        refine lv_iadd C.hx C.hb dL_law_1428 ?_
        refine tk_xl C hmn hS hw dL_law_1429 (fun x160 hw => ?_)
        obtain ⟨hv, hw⟩ := hw
        refine tw_cbi C hS (tk_runV (As := [.inl x159, .inl x160]) C hR hS (wk_X4_subtreeSize l C.hst G 2000 (by omega) _ _ _ _ _ σ hw) hv rfl q2319 q2320 q2321 q74 q2322 pd_X4_subtreeSize ⟨by omega, by omega⟩ hl.1 rfl (tw_r8 [] (Nat.le_of_ble_eq_true rfl)) dL_law_1430) (fun E q σ H locs hX hR hS hi => hX.elim) (fun x161 σ H locs hw hR hS => ?_)
        refine tk_istore (L' := [(7, .inl x161), (6, .inl x158), (0, .inr (some b)), (1, .inr l1), (2, .inr l2), (3, .inr l3), (4, .inr l4), (5, .inl l5)]) C hl dL_law_1433 (by decide) rfl (fun ls hl => ?_)
        refine tk_aload_n C hl 4 dL_law_1435 rfl ?_
        obtain ⟨hv, hw⟩ := hw
        refine tw_cbi C hS (tk_runV (As := []) C hR hS (wk_X4_thrown l C.hst G 2000 (by omega) _ _ _ σ hw) hv rfl q2147 q2148 q2149 q74 q2150 pd_X4_thrown ⟨by omega, by omega⟩ hl.1 rfl (tw_r8 [] (Nat.le_of_ble_eq_true rfl)) dL_law_1436) (fun E q σ H locs hX hR hS hi => hX.elim) (fun x162 σ H locs hw hR hS => ?_)
        refine tk_iload C hl 1 dL_law_1439 rfl ?_
        refine lv_icmp_eq (tgt := 1446) C.hx C.hb dL_law_1441 (by decide) (fun c1441 => ?_) (fun c1441 => ?_)
        · replace hw := hw.1 c1441
          refine tk_iload C hl 1 dL_law_1446 rfl ?_
          refine lv_if_ne (tgt := 1463) C.hx C.hb dL_law_1448 (by decide) (fun c1448 => ?_) (fun c1448 => ?_)
          · replace hw := hw.2 c1448
            exact wk_L_law_b1463 C hr hmn hnx hfr hRl hk28 _ _ _ _ _ σ _ _ _ hw hR hS (tk_sub hl [2, 3, 4, 5, 6, 7] rfl)
          · replace hw := hw.1 c1448
            refine tk_aload_n C hl 5 dL_law_1451 rfl ?_
            refine lv_iconst (v := 0) C.hx C.hb dL_law_1452 (by decide) ?_
            refine tk_ll C hR hw dL_law_1453 (fun x163 hw => ?_)
            refine tk_iload C hl 0 dL_law_1454 rfl ?_
            refine lv_i2l (v := x161.toInt64) C.hx C.hb dL_law_1456 rfl ?_
            refine tk_lcmp C dL_law_1457 ?_
            refine lv_if_eq (tgt := 1463) C.hx C.hb dL_law_1458 (by decide) (fun c1458 => ?_) (fun c1458 => ?_)
            · replace hw := hw.1 c1458
              exact wk_L_law_b1463 C hr hmn hnx hfr hRl hk28 _ _ _ _ _ σ _ _ _ hw hR hS (tk_sub hl [2, 3, 4, 5, 6, 7] rfl)
            · replace hw := hw.2 c1458
              refine lv_iconst (v := 0) C.hx C.hb dL_law_1461 (by decide) ?_
              exact tw_lret C hS hr hmn dL_law_1462 hw
        · replace hw := hw.2 c1441
          refine lv_iconst (v := 0) C.hx C.hb dL_law_1444 (by decide) ?_
          exact tw_lret C hS hr hmn dL_law_1445 hw
      replace hw := hw.2 c44_18
      by_cases c44_19 : (x1 &&& 63) = 19
      · replace hw := hw.1 c44_19
        refine lv_tableIn (tgt := 1466) (off := 1422) C.hx C.hb dL_law_44 (by rw [c44_19]; decide) (by rw [c44_19]; decide) (by rw [c44_19]; rfl) (by decide) ?_
        refine tk_aload_n C hl 1 dL_law_1466 rfl ?_
        refine tk_aload_n C hl 0 dL_law_1467 rfl ?_
        refine tk_iload C hl 5 dL_law_1468 rfl ?_
        refine lv_iconst (v := 1) C.hx C.hb dL_law_1470 (by decide) ?_
        refine lv_iadd C.hx C.hb dL_law_1471 ?_
        refine tk_xl C hmn hS hw dL_law_1472 (fun x165 hw => ?_)
        refine tk_aload_n C hl 0 dL_law_1473 rfl ?_
        refine tk_iload C hl 5 dL_law_1474 rfl ?_
        refine lv_iconst (v := 2) C.hx C.hb dL_law_1476 (by decide) ?_
        refine lv_iadd C.hx C.hb dL_law_1477 ?_
        refine tk_xl C hmn hS hw dL_law_1478 (fun x166 hw => ?_)
        refine tk_aload_n C hl 3 dL_law_1479 rfl ?_
        refine tw_cbi C hS (tw_runSW (As := [.inr l1, .inl x165, .inl x166, .inr l3]) C hR hS (wk_X0_subtreeHash l C.hst G 2000 (by omega) _ _ _ _ _ _ σ hw) q1765 q1766 q63 q1767 pd_X0_subtreeHash ⟨by omega, by omega⟩ hl.1 rfl (tw_r8 [] (Nat.le_of_ble_eq_true rfl)) dL_law_1480) (fun E q σ H locs hX hR hS hi => hX.elim) (fun x167 σ H locs hw hR hS => ?_)
        refine tk_istore (L' := [(6, .inl x167), (0, .inr (some b)), (1, .inr l1), (2, .inr l2), (3, .inr l3), (4, .inr l4), (5, .inl l5)]) C hl dL_law_1483 (by decide) rfl (fun ls hl => ?_)
        refine tk_aload_n C hl 3 dL_law_1485 rfl ?_
        refine tk_aload_n C hl 1 dL_law_1486 rfl ?_
        refine tk_iload C hl 6 dL_law_1487 rfl ?_
        refine lv_iconst (v := 1) C.hx C.hb dL_law_1489 (by decide) ?_
        refine lv_iadd C.hx C.hb dL_law_1490 ?_
        refine tk_xl C hmn hS hw dL_law_1491 (fun x168 hw => ?_)
        refine tk_aload_n C hl 1 dL_law_1492 rfl ?_
        refine tk_iload C hl 6 dL_law_1493 rfl ?_
        refine lv_iconst (v := 2) C.hx C.hb dL_law_1495 (by decide) ?_
        refine lv_iadd C.hx C.hb dL_law_1496 ?_
        refine tk_xl C hmn hS hw dL_law_1497 (fun x169 hw => ?_)
        obtain ⟨hv, hw⟩ := hw
        refine tw_cbi C hS (tk_runV (As := [.inl x168, .inl x169]) C hR hS (wk_X4_subtreeHash l C.hst G 2000 (by omega) _ _ _ _ _ σ hw) hv rfl q2323 q2324 q2325 q74 q2326 pd_X4_subtreeHash ⟨by omega, by omega⟩ hl.1 rfl (tw_r8 [] (Nat.le_of_ble_eq_true rfl)) dL_law_1498) (fun E q σ H locs hX hR hS hi => hX.elim) (fun x170 σ H locs hw hR hS => ?_)
        refine tk_istore (L' := [(7, .inl x170), (6, .inl x167), (0, .inr (some b)), (1, .inr l1), (2, .inr l2), (3, .inr l3), (4, .inr l4), (5, .inl l5)]) C hl dL_law_1501 (by decide) rfl (fun ls hl => ?_)
        refine tk_aload_n C hl 4 dL_law_1503 rfl ?_
        obtain ⟨hv, hw⟩ := hw
        refine tw_cbi C hS (tk_runV (As := []) C hR hS (wk_X4_thrown l C.hst G 2000 (by omega) _ _ _ σ hw) hv rfl q2147 q2148 q2149 q74 q2150 pd_X4_thrown ⟨by omega, by omega⟩ hl.1 rfl (tw_r8 [] (Nat.le_of_ble_eq_true rfl)) dL_law_1504) (fun E q σ H locs hX hR hS hi => hX.elim) (fun x171 σ H locs hw hR hS => ?_)
        refine tk_iload C hl 1 dL_law_1507 rfl ?_
        refine lv_icmp_eq (tgt := 1514) C.hx C.hb dL_law_1509 (by decide) (fun c1509 => ?_) (fun c1509 => ?_)
        · replace hw := hw.1 c1509
          refine tk_iload C hl 1 dL_law_1514 rfl ?_
          refine lv_if_ne (tgt := 1531) C.hx C.hb dL_law_1516 (by decide) (fun c1516 => ?_) (fun c1516 => ?_)
          · replace hw := hw.2 c1516
            exact wk_L_law_b1531 C hr hmn hnx hfr hRl hk28 _ _ _ _ _ σ _ _ _ hw hR hS (tk_sub hl [2, 3, 4, 5, 6, 7] rfl)
          · replace hw := hw.1 c1516
            refine tk_aload_n C hl 5 dL_law_1519 rfl ?_
            refine lv_iconst (v := 0) C.hx C.hb dL_law_1520 (by decide) ?_
            refine tk_ll C hR hw dL_law_1521 (fun x172 hw => ?_)
            refine tk_iload C hl 0 dL_law_1522 rfl ?_
            refine lv_i2l (v := x170.toInt64) C.hx C.hb dL_law_1524 rfl ?_
            refine tk_lcmp C dL_law_1525 ?_
            refine lv_if_eq (tgt := 1531) C.hx C.hb dL_law_1526 (by decide) (fun c1526 => ?_) (fun c1526 => ?_)
            · replace hw := hw.1 c1526
              exact wk_L_law_b1531 C hr hmn hnx hfr hRl hk28 _ _ _ _ _ σ _ _ _ hw hR hS (tk_sub hl [2, 3, 4, 5, 6, 7] rfl)
            · replace hw := hw.2 c1526
              refine lv_iconst (v := 0) C.hx C.hb dL_law_1529 (by decide) ?_
              exact tw_lret C hS hr hmn dL_law_1530 hw
        · replace hw := hw.2 c1509
          refine lv_iconst (v := 0) C.hx C.hb dL_law_1512 (by decide) ?_
          exact tw_lret C hS hr hmn dL_law_1513 hw
      replace hw := hw.2 c44_19
      by_cases c44_20 : (x1 &&& 63) = 20
      · replace hw := hw.1 c44_20
        refine lv_tableIn (tgt := 1534) (off := 1490) C.hx C.hb dL_law_44 (by rw [c44_20]; decide) (by rw [c44_20]; decide) (by rw [c44_20]; rfl) (by decide) ?_
        refine tk_aload_n C hl 1 dL_law_1534 rfl ?_
        refine tk_aload_n C hl 0 dL_law_1535 rfl ?_
        refine tk_iload C hl 5 dL_law_1536 rfl ?_
        refine lv_iconst (v := 1) C.hx C.hb dL_law_1538 (by decide) ?_
        refine lv_iadd C.hx C.hb dL_law_1539 ?_
        refine tk_xl C hmn hS hw dL_law_1540 (fun x174 hw => ?_)
        refine tk_aload_n C hl 0 dL_law_1541 rfl ?_
        refine tk_iload C hl 5 dL_law_1542 rfl ?_
        refine lv_iconst (v := 2) C.hx C.hb dL_law_1544 (by decide) ?_
        refine lv_iadd C.hx C.hb dL_law_1545 ?_
        refine tk_xl C hmn hS hw dL_law_1546 (fun x175 hw => ?_)
        refine tk_aload_n C hl 0 dL_law_1547 rfl ?_
        refine tk_iload C hl 5 dL_law_1548 rfl ?_
        refine lv_iconst (v := 3) C.hx C.hb dL_law_1550 (by decide) ?_
        refine lv_iadd C.hx C.hb dL_law_1551 ?_
        refine tk_xl C hmn hS hw dL_law_1552 (fun x176 hw => ?_)
        refine tk_aload_n C hl 0 dL_law_1553 rfl ?_
        refine tk_iload C hl 5 dL_law_1554 rfl ?_
        refine lv_iconst (v := 4) C.hx C.hb dL_law_1556 (by decide) ?_
        refine lv_iadd C.hx C.hb dL_law_1557 ?_
        refine tk_xl C hmn hS hw dL_law_1558 (fun x177 hw => ?_)
        refine tk_aload_n C hl 3 dL_law_1559 rfl ?_
        refine tw_cbi C hS (tw_runSW (As := [.inr l1, .inl x174, .inl x175, .inl x176, .inl x177, .inr l3]) C hR hS (wk_X0_areEqual l C.hst G 2000 (by omega) _ _ _ _ _ _ _ _ σ hw) q1777 q1778 q63 q1779 pd_X0_areEqual ⟨by omega, by omega⟩ hl.1 rfl (tw_r8 [] (Nat.le_of_ble_eq_true rfl)) dL_law_1560) (fun E q σ H locs hX hR hS hi => hX.elim) (fun x178 σ H locs hw hR hS => ?_)
        refine tk_istore (L' := [(6, .inl x178), (0, .inr (some b)), (1, .inr l1), (2, .inr l2), (3, .inr l3), (4, .inr l4), (5, .inl l5)]) C hl dL_law_1563 (by decide) rfl (fun ls hl => ?_)
        refine tk_aload_n C hl 3 dL_law_1565 rfl ?_
        refine tk_aload_n C hl 1 dL_law_1566 rfl ?_
        refine tk_iload C hl 6 dL_law_1567 rfl ?_
        refine lv_iconst (v := 1) C.hx C.hb dL_law_1569 (by decide) ?_
        refine lv_iadd C.hx C.hb dL_law_1570 ?_
        refine tk_xl C hmn hS hw dL_law_1571 (fun x179 hw => ?_)
        refine tk_aload_n C hl 1 dL_law_1572 rfl ?_
        refine tk_iload C hl 6 dL_law_1573 rfl ?_
        refine lv_iconst (v := 2) C.hx C.hb dL_law_1575 (by decide) ?_
        refine lv_iadd C.hx C.hb dL_law_1576 ?_
        refine tk_xl C hmn hS hw dL_law_1577 (fun x180 hw => ?_)
        refine tk_aload_n C hl 1 dL_law_1578 rfl ?_
        refine tk_iload C hl 6 dL_law_1579 rfl ?_
        refine lv_iconst (v := 3) C.hx C.hb dL_law_1581 (by decide) ?_
        refine lv_iadd C.hx C.hb dL_law_1582 ?_
        refine tk_xl C hmn hS hw dL_law_1583 (fun x181 hw => ?_)
        refine tk_aload_n C hl 1 dL_law_1584 rfl ?_
        refine tk_iload C hl 6 dL_law_1585 rfl ?_
        refine lv_iconst (v := 4) C.hx C.hb dL_law_1587 (by decide) ?_
        refine lv_iadd C.hx C.hb dL_law_1588 ?_
        refine tk_xl C hmn hS hw dL_law_1589 (fun x182 hw => ?_)
        obtain ⟨hv, hw⟩ := hw
        refine tw_cbi C hS (tk_runV (As := [.inl x179, .inl x180, .inl x181, .inl x182]) C hR hS (wk_X4_areEqual l C.hst G 2000 (by omega) _ _ _ _ _ _ _ σ hw) hv rfl q2333 q2334 q2335 q74 q2336 pd_X4_areEqual ⟨by omega, by omega⟩ hl.1 rfl (tw_r8 [] (Nat.le_of_ble_eq_true rfl)) dL_law_1590) (fun E q σ H locs hX hR hS hi => hX.elim) (fun x183 σ H locs hw hR hS => ?_)
        refine tk_istore (L' := [(7, .inl x183), (6, .inl x178), (0, .inr (some b)), (1, .inr l1), (2, .inr l2), (3, .inr l3), (4, .inr l4), (5, .inl l5)]) C hl dL_law_1593 (by decide) rfl (fun ls hl => ?_)
        refine tk_aload_n C hl 4 dL_law_1595 rfl ?_
        obtain ⟨hv, hw⟩ := hw
        refine tw_cbi C hS (tk_runV (As := []) C hR hS (wk_X4_thrown l C.hst G 2000 (by omega) _ _ _ σ hw) hv rfl q2147 q2148 q2149 q74 q2150 pd_X4_thrown ⟨by omega, by omega⟩ hl.1 rfl (tw_r8 [] (Nat.le_of_ble_eq_true rfl)) dL_law_1596) (fun E q σ H locs hX hR hS hi => hX.elim) (fun x184 σ H locs hw hR hS => ?_)
        refine tk_iload C hl 1 dL_law_1599 rfl ?_
        refine lv_icmp_eq (tgt := 1606) C.hx C.hb dL_law_1601 (by decide) (fun c1601 => ?_) (fun c1601 => ?_)
        · replace hw := hw.1 c1601
          refine tk_iload C hl 1 dL_law_1606 rfl ?_
          refine lv_if_ne (tgt := 1630) C.hx C.hb dL_law_1608 (by decide) (fun c1608 => ?_) (fun c1608 => ?_)
          · replace hw := hw.2 c1608
            exact wk_L_law_b1630 C hr hmn hnx hfr hRl hk28 _ _ _ _ _ σ _ _ _ hw hR hS (tk_sub hl [2, 3, 4, 5, 6, 7] rfl)
          · replace hw := hw.1 c1608
            refine tk_aload_n C hl 5 dL_law_1611 rfl ?_
            refine lv_iconst (v := 0) C.hx C.hb dL_law_1612 (by decide) ?_
            refine tk_ll C hR hw dL_law_1613 (fun x185 hw => ?_)
            refine tk_iload C hl 0 dL_law_1614 rfl ?_
            refine lv_if_eq (tgt := 1623) C.hx C.hb dL_law_1616 (by decide) (fun c1616 => ?_) (fun c1616 => ?_)
            · replace hw := hw.1 c1616
              refine lv_lconst (v := 0) C.hx C.hb dL_law_1623 (by decide) ?_
              exact wk_L_law_b1624 C hr hmn hnx hfr hRl hk28 _ _ _ _ _ _ _ σ _ _ _ hw hR hS (tk_sub hl [2, 3, 4, 5, 6, 7] rfl)
            · replace hw := hw.2 c1616
              refine lv_lconst (v := 1) C.hx C.hb dL_law_1619 (by decide) ?_
              refine lv_goto (tgt := 1624) C.hx C.hb dL_law_1620 (by decide) ?_
              exact wk_L_law_b1624 C hr hmn hnx hfr hRl hk28 _ _ _ _ _ _ _ σ _ _ _ hw hR hS (tk_sub hl [2, 3, 4, 5, 6, 7] rfl)
        · replace hw := hw.2 c1601
          refine lv_iconst (v := 0) C.hx C.hb dL_law_1604 (by decide) ?_
          exact tw_lret C hS hr hmn dL_law_1605 hw
      replace hw := hw.2 c44_20
      by_cases c44_21 : (x1 &&& 63) = 21
      · replace hw := hw.1 c44_21
        refine lv_tableIn (tgt := 1633) (off := 1589) C.hx C.hb dL_law_44 (by rw [c44_21]; decide) (by rw [c44_21]; decide) (by rw [c44_21]; rfl) (by decide) ?_
        refine tk_aload_n C hl 1 dL_law_1633 rfl ?_
        refine tk_aload_n C hl 0 dL_law_1634 rfl ?_
        refine tk_iload C hl 5 dL_law_1635 rfl ?_
        refine lv_iconst (v := 1) C.hx C.hb dL_law_1637 (by decide) ?_
        refine lv_iadd C.hx C.hb dL_law_1638 ?_
        refine tk_xl C hmn hS hw dL_law_1639 (fun x186 hw => ?_)
        refine tk_aload_n C hl 0 dL_law_1640 rfl ?_
        refine tk_iload C hl 5 dL_law_1641 rfl ?_
        refine lv_iconst (v := 2) C.hx C.hb dL_law_1643 (by decide) ?_
        refine lv_iadd C.hx C.hb dL_law_1644 ?_
        refine tk_xl C hmn hS hw dL_law_1645 (fun x187 hw => ?_)
        refine tk_aload_n C hl 0 dL_law_1646 rfl ?_
        refine tk_iload C hl 5 dL_law_1647 rfl ?_
        refine lv_iconst (v := 3) C.hx C.hb dL_law_1649 (by decide) ?_
        refine lv_iadd C.hx C.hb dL_law_1650 ?_
        refine tk_xl C hmn hS hw dL_law_1651 (fun x188 hw => ?_)
        refine tk_aload_n C hl 3 dL_law_1652 rfl ?_
        refine tw_cbi C hS (tw_runSW (As := [.inr l1, .inl x186, .inl x187, .inl x188, .inr l3]) C hR hS (wk_X0_twin l C.hst G 2000 (by omega) _ _ _ _ _ _ _ σ hw) q1784 q1785 q63 q1786 pd_X0_twin ⟨by omega, by omega⟩ hl.1 rfl (tw_r8 [] (Nat.le_of_ble_eq_true rfl)) dL_law_1653) (fun E q σ H locs hX hR hS hi => hX.elim) (fun x189 σ H locs hw hR hS => ?_)
        refine tk_istore (L' := [(6, .inl x189), (0, .inr (some b)), (1, .inr l1), (2, .inr l2), (3, .inr l3), (4, .inr l4), (5, .inl l5)]) C hl dL_law_1656 (by decide) rfl (fun ls hl => ?_)
        refine tk_aload_n C hl 3 dL_law_1658 rfl ?_
        refine tk_aload_n C hl 1 dL_law_1659 rfl ?_
        refine tk_iload C hl 6 dL_law_1660 rfl ?_
        refine lv_iconst (v := 1) C.hx C.hb dL_law_1662 (by decide) ?_
        refine lv_iadd C.hx C.hb dL_law_1663 ?_
        refine tk_xl C hmn hS hw dL_law_1664 (fun x190 hw => ?_)
        refine tk_aload_n C hl 1 dL_law_1665 rfl ?_
        refine tk_iload C hl 6 dL_law_1666 rfl ?_
        refine lv_iconst (v := 2) C.hx C.hb dL_law_1668 (by decide) ?_
        refine lv_iadd C.hx C.hb dL_law_1669 ?_
        refine tk_xl C hmn hS hw dL_law_1670 (fun x191 hw => ?_)
        refine tk_aload_n C hl 1 dL_law_1671 rfl ?_
        refine tk_iload C hl 6 dL_law_1672 rfl ?_
        refine lv_iconst (v := 3) C.hx C.hb dL_law_1674 (by decide) ?_
        refine lv_iadd C.hx C.hb dL_law_1675 ?_
        refine tk_xl C hmn hS hw dL_law_1676 (fun x192 hw => ?_)
        obtain ⟨hv, hw⟩ := hw
        refine tw_cbi C hS (tk_runV (As := [.inl x190, .inl x191, .inl x192]) C hR hS (wk_X4_twin l C.hst G 2000 (by omega) _ _ _ _ _ _ σ hw) hv rfl q2340 q2341 q2342 q74 q2343 pd_X4_twin ⟨by omega, by omega⟩ hl.1 rfl (tw_r8 [] (Nat.le_of_ble_eq_true rfl)) dL_law_1677) (fun E q σ H locs hX hR hS hi => hX.elim) (fun x193 σ H locs hw hR hS => ?_)
        refine tk_istore (L' := [(7, .inl x193), (6, .inl x189), (0, .inr (some b)), (1, .inr l1), (2, .inr l2), (3, .inr l3), (4, .inr l4), (5, .inl l5)]) C hl dL_law_1680 (by decide) rfl (fun ls hl => ?_)
        refine tk_aload_n C hl 4 dL_law_1682 rfl ?_
        obtain ⟨hv, hw⟩ := hw
        refine tw_cbi C hS (tk_runV (As := []) C hR hS (wk_X4_thrown l C.hst G 2000 (by omega) _ _ _ σ hw) hv rfl q2147 q2148 q2149 q74 q2150 pd_X4_thrown ⟨by omega, by omega⟩ hl.1 rfl (tw_r8 [] (Nat.le_of_ble_eq_true rfl)) dL_law_1683) (fun E q σ H locs hX hR hS hi => hX.elim) (fun x194 σ H locs hw hR hS => ?_)
        refine tk_iload C hl 1 dL_law_1686 rfl ?_
        refine lv_icmp_eq (tgt := 1693) C.hx C.hb dL_law_1688 (by decide) (fun c1688 => ?_) (fun c1688 => ?_)
        · replace hw := hw.1 c1688
          refine tk_iload C hl 1 dL_law_1693 rfl ?_
          refine lv_if_ne (tgt := 1710) C.hx C.hb dL_law_1695 (by decide) (fun c1695 => ?_) (fun c1695 => ?_)
          · replace hw := hw.2 c1695
            exact wk_L_law_b1710 C hr hmn hnx hfr hRl hk28 _ _ _ _ _ σ _ _ _ hw hR hS (tk_sub hl [2, 3, 4, 5, 6, 7] rfl)
          · replace hw := hw.1 c1695
            refine tk_aload_n C hl 5 dL_law_1698 rfl ?_
            refine lv_iconst (v := 0) C.hx C.hb dL_law_1699 (by decide) ?_
            refine tk_ll C hR hw dL_law_1700 (fun x195 hw => ?_)
            refine tk_iload C hl 0 dL_law_1701 rfl ?_
            refine lv_i2l (v := x193.toInt64) C.hx C.hb dL_law_1703 rfl ?_
            refine tk_lcmp C dL_law_1704 ?_
            refine lv_if_eq (tgt := 1710) C.hx C.hb dL_law_1705 (by decide) (fun c1705 => ?_) (fun c1705 => ?_)
            · replace hw := hw.1 c1705
              exact wk_L_law_b1710 C hr hmn hnx hfr hRl hk28 _ _ _ _ _ σ _ _ _ hw hR hS (tk_sub hl [2, 3, 4, 5, 6, 7] rfl)
            · replace hw := hw.2 c1705
              refine lv_iconst (v := 0) C.hx C.hb dL_law_1708 (by decide) ?_
              exact tw_lret C hS hr hmn dL_law_1709 hw
        · replace hw := hw.2 c1688
          refine lv_iconst (v := 0) C.hx C.hb dL_law_1691 (by decide) ?_
          exact tw_lret C hS hr hmn dL_law_1692 hw
      replace hw := hw.2 c44_21
      by_cases c44_22 : (x1 &&& 63) = 22
      · replace hw := hw.1 c44_22
        refine lv_tableIn (tgt := 1713) (off := 1669) C.hx C.hb dL_law_44 (by rw [c44_22]; decide) (by rw [c44_22]; decide) (by rw [c44_22]; rfl) (by decide) ?_
        refine tk_aload_n C hl 1 dL_law_1713 rfl ?_
        refine tk_aload_n C hl 0 dL_law_1714 rfl ?_
        refine tk_iload C hl 5 dL_law_1715 rfl ?_
        refine lv_iconst (v := 1) C.hx C.hb dL_law_1717 (by decide) ?_
        refine lv_iadd C.hx C.hb dL_law_1718 ?_
        refine tk_xl C hmn hS hw dL_law_1719 (fun x197 hw => ?_)
        refine tk_aload_n C hl 0 dL_law_1720 rfl ?_
        refine tk_iload C hl 5 dL_law_1721 rfl ?_
        refine lv_iconst (v := 2) C.hx C.hb dL_law_1723 (by decide) ?_
        refine lv_iadd C.hx C.hb dL_law_1724 ?_
        refine tk_xl C hmn hS hw dL_law_1725 (fun x198 hw => ?_)
        refine tk_aload_n C hl 0 dL_law_1726 rfl ?_
        refine tk_iload C hl 5 dL_law_1727 rfl ?_
        refine lv_iconst (v := 3) C.hx C.hb dL_law_1729 (by decide) ?_
        refine lv_iadd C.hx C.hb dL_law_1730 ?_
        refine tk_xl C hmn hS hw dL_law_1731 (fun x199 hw => ?_)
        refine tk_aload_n C hl 3 dL_law_1732 rfl ?_
        refine tw_cbi C hS (tw_runSW (As := [.inr l1, .inl x197, .inl x198, .inl x199, .inr l3]) C hR hS (wk_X0_shapeTwin l C.hst G 2000 (by omega) _ _ _ _ _ _ _ σ hw) q1791 q1792 q63 q1793 pd_X0_shapeTwin ⟨by omega, by omega⟩ hl.1 rfl (tw_r8 [] (Nat.le_of_ble_eq_true rfl)) dL_law_1733) (fun E q σ H locs hX hR hS hi => hX.elim) (fun x200 σ H locs hw hR hS => ?_)
        refine tk_istore (L' := [(6, .inl x200), (0, .inr (some b)), (1, .inr l1), (2, .inr l2), (3, .inr l3), (4, .inr l4), (5, .inl l5)]) C hl dL_law_1736 (by decide) rfl (fun ls hl => ?_)
        refine tk_aload_n C hl 3 dL_law_1738 rfl ?_
        refine tk_aload_n C hl 1 dL_law_1739 rfl ?_
        refine tk_iload C hl 6 dL_law_1740 rfl ?_
        refine lv_iconst (v := 1) C.hx C.hb dL_law_1742 (by decide) ?_
        refine lv_iadd C.hx C.hb dL_law_1743 ?_
        refine tk_xl C hmn hS hw dL_law_1744 (fun x201 hw => ?_)
        refine tk_aload_n C hl 1 dL_law_1745 rfl ?_
        refine tk_iload C hl 6 dL_law_1746 rfl ?_
        refine lv_iconst (v := 2) C.hx C.hb dL_law_1748 (by decide) ?_
        refine lv_iadd C.hx C.hb dL_law_1749 ?_
        refine tk_xl C hmn hS hw dL_law_1750 (fun x202 hw => ?_)
        refine tk_aload_n C hl 1 dL_law_1751 rfl ?_
        refine tk_iload C hl 6 dL_law_1752 rfl ?_
        refine lv_iconst (v := 3) C.hx C.hb dL_law_1754 (by decide) ?_
        refine lv_iadd C.hx C.hb dL_law_1755 ?_
        refine tk_xl C hmn hS hw dL_law_1756 (fun x203 hw => ?_)
        obtain ⟨hv, hw⟩ := hw
        refine tw_cbi C hS (tk_runV (As := [.inl x201, .inl x202, .inl x203]) C hR hS (wk_X4_shapeTwin l C.hst G 2000 (by omega) _ _ _ _ _ _ σ hw) hv rfl q2348 q2349 q2350 q74 q2351 pd_X4_shapeTwin ⟨by omega, by omega⟩ hl.1 rfl (tw_r8 [] (Nat.le_of_ble_eq_true rfl)) dL_law_1757) (fun E q σ H locs hX hR hS hi => hX.elim) (fun x204 σ H locs hw hR hS => ?_)
        refine tk_istore (L' := [(7, .inl x204), (6, .inl x200), (0, .inr (some b)), (1, .inr l1), (2, .inr l2), (3, .inr l3), (4, .inr l4), (5, .inl l5)]) C hl dL_law_1760 (by decide) rfl (fun ls hl => ?_)
        refine tk_aload_n C hl 4 dL_law_1762 rfl ?_
        obtain ⟨hv, hw⟩ := hw
        refine tw_cbi C hS (tk_runV (As := []) C hR hS (wk_X4_thrown l C.hst G 2000 (by omega) _ _ _ σ hw) hv rfl q2147 q2148 q2149 q74 q2150 pd_X4_thrown ⟨by omega, by omega⟩ hl.1 rfl (tw_r8 [] (Nat.le_of_ble_eq_true rfl)) dL_law_1763) (fun E q σ H locs hX hR hS hi => hX.elim) (fun x205 σ H locs hw hR hS => ?_)
        refine tk_iload C hl 1 dL_law_1766 rfl ?_
        refine lv_icmp_eq (tgt := 1773) C.hx C.hb dL_law_1768 (by decide) (fun c1768 => ?_) (fun c1768 => ?_)
        · replace hw := hw.1 c1768
          refine tk_iload C hl 1 dL_law_1773 rfl ?_
          refine lv_if_ne (tgt := 1790) C.hx C.hb dL_law_1775 (by decide) (fun c1775 => ?_) (fun c1775 => ?_)
          · replace hw := hw.2 c1775
            exact wk_L_law_b1790 C hr hmn hnx hfr hRl hk28 _ _ _ _ _ σ _ _ _ hw hR hS (tk_sub hl [2, 3, 4, 5, 6, 7] rfl)
          · replace hw := hw.1 c1775
            refine tk_aload_n C hl 5 dL_law_1778 rfl ?_
            refine lv_iconst (v := 0) C.hx C.hb dL_law_1779 (by decide) ?_
            refine tk_ll C hR hw dL_law_1780 (fun x206 hw => ?_)
            refine tk_iload C hl 0 dL_law_1781 rfl ?_
            refine lv_i2l (v := x204.toInt64) C.hx C.hb dL_law_1783 rfl ?_
            refine tk_lcmp C dL_law_1784 ?_
            refine lv_if_eq (tgt := 1790) C.hx C.hb dL_law_1785 (by decide) (fun c1785 => ?_) (fun c1785 => ?_)
            · replace hw := hw.1 c1785
              exact wk_L_law_b1790 C hr hmn hnx hfr hRl hk28 _ _ _ _ _ σ _ _ _ hw hR hS (tk_sub hl [2, 3, 4, 5, 6, 7] rfl)
            · replace hw := hw.2 c1785
              refine lv_iconst (v := 0) C.hx C.hb dL_law_1788 (by decide) ?_
              exact tw_lret C hS hr hmn dL_law_1789 hw
        · replace hw := hw.2 c1768
          refine lv_iconst (v := 0) C.hx C.hb dL_law_1771 (by decide) ?_
          exact tw_lret C hS hr hmn dL_law_1772 hw
      replace hw := hw.2 c44_22
      by_cases c44_23 : (x1 &&& 63) = 23
      · replace hw := hw.1 c44_23
        refine lv_tableIn (tgt := 1793) (off := 1749) C.hx C.hb dL_law_44 (by rw [c44_23]; decide) (by rw [c44_23]; decide) (by rw [c44_23]; rfl) (by decide) ?_
        refine tk_aload_n C hl 1 dL_law_1793 rfl ?_
        refine tk_aload_n C hl 0 dL_law_1794 rfl ?_
        refine tk_iload C hl 5 dL_law_1795 rfl ?_
        refine lv_iconst (v := 1) C.hx C.hb dL_law_1797 (by decide) ?_
        refine lv_iadd C.hx C.hb dL_law_1798 ?_
        refine tk_xl C hmn hS hw dL_law_1799 (fun x208 hw => ?_)
        refine tk_aload_n C hl 0 dL_law_1800 rfl ?_
        refine tk_iload C hl 5 dL_law_1801 rfl ?_
        refine lv_iconst (v := 2) C.hx C.hb dL_law_1803 (by decide) ?_
        refine lv_iadd C.hx C.hb dL_law_1804 ?_
        refine tk_xl C hmn hS hw dL_law_1805 (fun x209 hw => ?_)
        refine tk_aload_n C hl 3 dL_law_1806 rfl ?_
        refine tw_cbi C hS (tw_runSW (As := [.inr l1, .inl x208, .inl x209, .inr l3]) C hR hS (wk_X0_distance l C.hst G 2000 (by omega) _ _ _ _ _ _ σ hw) q1798 q1799 q63 q1800 pd_X0_distance ⟨by omega, by omega⟩ hl.1 rfl (tw_r8 [] (Nat.le_of_ble_eq_true rfl)) dL_law_1807) (fun E q σ H locs hX hR hS hi => hX.elim) (fun x210 σ H locs hw hR hS => ?_)
        refine tk_istore (L' := [(6, .inl x210), (0, .inr (some b)), (1, .inr l1), (2, .inr l2), (3, .inr l3), (4, .inr l4), (5, .inl l5)]) C hl dL_law_1810 (by decide) rfl (fun ls hl => ?_)
        refine tk_aload_n C hl 3 dL_law_1812 rfl ?_
        refine tk_aload_n C hl 1 dL_law_1813 rfl ?_
        refine tk_iload C hl 6 dL_law_1814 rfl ?_
        refine lv_iconst (v := 1) C.hx C.hb dL_law_1816 (by decide) ?_
        refine lv_iadd C.hx C.hb dL_law_1817 ?_
        refine tk_xl C hmn hS hw dL_law_1818 (fun x211 hw => ?_)
        refine tk_aload_n C hl 1 dL_law_1819 rfl ?_
        refine tk_iload C hl 6 dL_law_1820 rfl ?_
        refine lv_iconst (v := 2) C.hx C.hb dL_law_1822 (by decide) ?_
        refine lv_iadd C.hx C.hb dL_law_1823 ?_
        refine tk_xl C hmn hS hw dL_law_1824 (fun x212 hw => ?_)
        obtain ⟨hv, hw⟩ := hw
        refine tw_cbi C hS (tk_runV (As := [.inl x211, .inl x212]) C hR hS (wk_X4_distance l C.hst G 2000 (by omega) _ _ _ _ _ σ hw) hv rfl q2352 q2353 q2354 q74 q2355 pd_X4_distance ⟨by omega, by omega⟩ hl.1 rfl (tw_r8 [] (Nat.le_of_ble_eq_true rfl)) dL_law_1825) (fun E q σ H locs hX hR hS hi => hX.elim) (fun x213 σ H locs hw hR hS => ?_)
        refine tk_istore (L' := [(7, .inl x213), (6, .inl x210), (0, .inr (some b)), (1, .inr l1), (2, .inr l2), (3, .inr l3), (4, .inr l4), (5, .inl l5)]) C hl dL_law_1828 (by decide) rfl (fun ls hl => ?_)
        refine tk_aload_n C hl 4 dL_law_1830 rfl ?_
        obtain ⟨hv, hw⟩ := hw
        refine tw_cbi C hS (tk_runV (As := []) C hR hS (wk_X4_thrown l C.hst G 2000 (by omega) _ _ _ σ hw) hv rfl q2147 q2148 q2149 q74 q2150 pd_X4_thrown ⟨by omega, by omega⟩ hl.1 rfl (tw_r8 [] (Nat.le_of_ble_eq_true rfl)) dL_law_1831) (fun E q σ H locs hX hR hS hi => hX.elim) (fun x214 σ H locs hw hR hS => ?_)
        refine tk_iload C hl 1 dL_law_1834 rfl ?_
        refine lv_icmp_eq (tgt := 1841) C.hx C.hb dL_law_1836 (by decide) (fun c1836 => ?_) (fun c1836 => ?_)
        · replace hw := hw.1 c1836
          refine tk_iload C hl 1 dL_law_1841 rfl ?_
          refine lv_if_ne (tgt := 1858) C.hx C.hb dL_law_1843 (by decide) (fun c1843 => ?_) (fun c1843 => ?_)
          · replace hw := hw.2 c1843
            exact wk_L_law_b1858 C hr hmn hnx hfr hRl hk28 _ _ _ _ _ σ _ _ _ hw hR hS (tk_sub hl [2, 3, 4, 5, 6, 7] rfl)
          · replace hw := hw.1 c1843
            refine tk_aload_n C hl 5 dL_law_1846 rfl ?_
            refine lv_iconst (v := 0) C.hx C.hb dL_law_1847 (by decide) ?_
            refine tk_ll C hR hw dL_law_1848 (fun x215 hw => ?_)
            refine tk_iload C hl 0 dL_law_1849 rfl ?_
            refine lv_i2l (v := x213.toInt64) C.hx C.hb dL_law_1851 rfl ?_
            refine tk_lcmp C dL_law_1852 ?_
            refine lv_if_eq (tgt := 1858) C.hx C.hb dL_law_1853 (by decide) (fun c1853 => ?_) (fun c1853 => ?_)
            · replace hw := hw.1 c1853
              exact wk_L_law_b1858 C hr hmn hnx hfr hRl hk28 _ _ _ _ _ σ _ _ _ hw hR hS (tk_sub hl [2, 3, 4, 5, 6, 7] rfl)
            · replace hw := hw.2 c1853
              refine lv_iconst (v := 0) C.hx C.hb dL_law_1856 (by decide) ?_
              exact tw_lret C hS hr hmn dL_law_1857 hw
        · replace hw := hw.2 c1836
          refine lv_iconst (v := 0) C.hx C.hb dL_law_1839 (by decide) ?_
          exact tw_lret C hS hr hmn dL_law_1840 hw
      replace hw := hw.2 c44_23
      by_cases c44_24 : (x1 &&& 63) = 24
      · replace hw := hw.1 c44_24
        refine lv_tableIn (tgt := 1861) (off := 1817) C.hx C.hb dL_law_44 (by rw [c44_24]; decide) (by rw [c44_24]; decide) (by rw [c44_24]; rfl) (by decide) ?_
        refine tk_aload_n C hl 1 dL_law_1861 rfl ?_
        refine tk_aload_n C hl 0 dL_law_1862 rfl ?_
        refine tk_iload C hl 5 dL_law_1863 rfl ?_
        refine lv_iconst (v := 1) C.hx C.hb dL_law_1865 (by decide) ?_
        refine lv_iadd C.hx C.hb dL_law_1866 ?_
        refine tk_xl C hmn hS hw dL_law_1867 (fun x217 hw => ?_)
        refine tk_aload_n C hl 0 dL_law_1868 rfl ?_
        refine tk_iload C hl 5 dL_law_1869 rfl ?_
        refine lv_iconst (v := 2) C.hx C.hb dL_law_1871 (by decide) ?_
        refine lv_iadd C.hx C.hb dL_law_1872 ?_
        refine tk_xl C hmn hS hw dL_law_1873 (fun x218 hw => ?_)
        refine tk_aload_n C hl 3 dL_law_1874 rfl ?_
        refine tw_cbi C hS (tw_runSW (As := [.inr l1, .inl x217, .inl x218, .inr l3]) C hR hS (wk_X0_distanceByMatchings l C.hst G 2000 (by omega) _ _ _ _ _ _ σ hw) q1805 q1806 q63 q1807 pd_X0_distanceByMatchings ⟨by omega, by omega⟩ hl.1 rfl (tw_r8 [] (Nat.le_of_ble_eq_true rfl)) dL_law_1875) (fun E q σ H locs hX hR hS hi => hX.elim) (fun x219 σ H locs hw hR hS => ?_)
        refine tk_istore (L' := [(6, .inl x219), (0, .inr (some b)), (1, .inr l1), (2, .inr l2), (3, .inr l3), (4, .inr l4), (5, .inl l5)]) C hl dL_law_1878 (by decide) rfl (fun ls hl => ?_)
        refine tk_aload_n C hl 3 dL_law_1880 rfl ?_
        refine tk_aload_n C hl 1 dL_law_1881 rfl ?_
        refine tk_iload C hl 6 dL_law_1882 rfl ?_
        refine lv_iconst (v := 1) C.hx C.hb dL_law_1884 (by decide) ?_
        refine lv_iadd C.hx C.hb dL_law_1885 ?_
        refine tk_xl C hmn hS hw dL_law_1886 (fun x220 hw => ?_)
        refine tk_aload_n C hl 1 dL_law_1887 rfl ?_
        refine tk_iload C hl 6 dL_law_1888 rfl ?_
        refine lv_iconst (v := 2) C.hx C.hb dL_law_1890 (by decide) ?_
        refine lv_iadd C.hx C.hb dL_law_1891 ?_
        refine tk_xl C hmn hS hw dL_law_1892 (fun x221 hw => ?_)
        obtain ⟨hv, hw⟩ := hw
        refine tw_cbi C hS (tk_runV (As := [.inl x220, .inl x221]) C hR hS (wk_X4_distanceByMatchings l C.hst G 2000 (by omega) _ _ _ _ _ σ hw) hv rfl q2366 q2367 q2368 q74 q2369 pd_X4_distanceByMatchings ⟨by omega, by omega⟩ hl.1 rfl (tw_r8 [] (Nat.le_of_ble_eq_true rfl)) dL_law_1893) (fun E q σ H locs hX hR hS hi => hX.elim) (fun x222 σ H locs hw hR hS => ?_)
        refine tk_istore (L' := [(7, .inl x222), (6, .inl x219), (0, .inr (some b)), (1, .inr l1), (2, .inr l2), (3, .inr l3), (4, .inr l4), (5, .inl l5)]) C hl dL_law_1896 (by decide) rfl (fun ls hl => ?_)
        refine tk_aload_n C hl 4 dL_law_1898 rfl ?_
        obtain ⟨hv, hw⟩ := hw
        refine tw_cbi C hS (tk_runV (As := []) C hR hS (wk_X4_thrown l C.hst G 2000 (by omega) _ _ _ σ hw) hv rfl q2147 q2148 q2149 q74 q2150 pd_X4_thrown ⟨by omega, by omega⟩ hl.1 rfl (tw_r8 [] (Nat.le_of_ble_eq_true rfl)) dL_law_1899) (fun E q σ H locs hX hR hS hi => hX.elim) (fun x223 σ H locs hw hR hS => ?_)
        refine tk_iload C hl 1 dL_law_1902 rfl ?_
        refine lv_icmp_eq (tgt := 1909) C.hx C.hb dL_law_1904 (by decide) (fun c1904 => ?_) (fun c1904 => ?_)
        · replace hw := hw.1 c1904
          refine tk_iload C hl 1 dL_law_1909 rfl ?_
          refine lv_if_ne (tgt := 1926) C.hx C.hb dL_law_1911 (by decide) (fun c1911 => ?_) (fun c1911 => ?_)
          · replace hw := hw.2 c1911
            exact wk_L_law_b1926 C hr hmn hnx hfr hRl hk28 _ _ _ _ _ σ _ _ _ hw hR hS (tk_sub hl [2, 3, 4, 5, 6, 7] rfl)
          · replace hw := hw.1 c1911
            refine tk_aload_n C hl 5 dL_law_1914 rfl ?_
            refine lv_iconst (v := 0) C.hx C.hb dL_law_1915 (by decide) ?_
            refine tk_ll C hR hw dL_law_1916 (fun x224 hw => ?_)
            refine tk_iload C hl 0 dL_law_1917 rfl ?_
            refine lv_i2l (v := x222.toInt64) C.hx C.hb dL_law_1919 rfl ?_
            refine tk_lcmp C dL_law_1920 ?_
            refine lv_if_eq (tgt := 1926) C.hx C.hb dL_law_1921 (by decide) (fun c1921 => ?_) (fun c1921 => ?_)
            · replace hw := hw.1 c1921
              exact wk_L_law_b1926 C hr hmn hnx hfr hRl hk28 _ _ _ _ _ σ _ _ _ hw hR hS (tk_sub hl [2, 3, 4, 5, 6, 7] rfl)
            · replace hw := hw.2 c1921
              refine lv_iconst (v := 0) C.hx C.hb dL_law_1924 (by decide) ?_
              exact tw_lret C hS hr hmn dL_law_1925 hw
        · replace hw := hw.2 c1904
          refine lv_iconst (v := 0) C.hx C.hb dL_law_1907 (by decide) ?_
          exact tw_lret C hS hr hmn dL_law_1908 hw
      replace hw := hw.2 c44_24
      by_cases c44_25 : (x1 &&& 63) = 25
      · replace hw := hw.1 c44_25
        refine lv_tableIn (tgt := 1929) (off := 1885) C.hx C.hb dL_law_44 (by rw [c44_25]; decide) (by rw [c44_25]; decide) (by rw [c44_25]; rfl) (by decide) ?_
        refine tk_aload_n C hl 1 dL_law_1929 rfl ?_
        refine tk_aload_n C hl 0 dL_law_1930 rfl ?_
        refine tk_iload C hl 5 dL_law_1931 rfl ?_
        refine lv_iconst (v := 1) C.hx C.hb dL_law_1933 (by decide) ?_
        refine lv_iadd C.hx C.hb dL_law_1934 ?_
        refine tk_xl C hmn hS hw dL_law_1935 (fun x226 hw => ?_)
        refine tk_aload_n C hl 0 dL_law_1936 rfl ?_
        refine tk_iload C hl 5 dL_law_1937 rfl ?_
        refine lv_iconst (v := 2) C.hx C.hb dL_law_1939 (by decide) ?_
        refine lv_iadd C.hx C.hb dL_law_1940 ?_
        refine tk_xl C hmn hS hw dL_law_1941 (fun x227 hw => ?_)
        refine tk_aload C hl 4 dL_law_1942 rfl ?_
        refine tw_cbi C hS (tw_runSW (As := [.inr l1, .inl x226, .inl x227, .inr l4]) C hR hS (wk_X0_similarity l C.hst G 2000 (by omega) _ _ _ _ _ _ σ hw) q1812 q1813 q63 q1814 pd_X0_similarity ⟨by omega, by omega⟩ hl.1 rfl (tw_r8 [] (Nat.le_of_ble_eq_true rfl)) dL_law_1944) (fun E q σ H locs hX hR hS hi => hX.elim) (fun x228 σ H locs hw hR hS => ?_)
        refine tk_istore (L' := [(6, .inl x228), (0, .inr (some b)), (1, .inr l1), (2, .inr l2), (3, .inr l3), (4, .inr l4), (5, .inl l5)]) C hl dL_law_1947 (by decide) rfl (fun ls hl => ?_)
        refine tk_aload_n C hl 3 dL_law_1949 rfl ?_
        refine tk_aload_n C hl 1 dL_law_1950 rfl ?_
        refine tk_iload C hl 6 dL_law_1951 rfl ?_
        refine lv_iconst (v := 1) C.hx C.hb dL_law_1953 (by decide) ?_
        refine lv_iadd C.hx C.hb dL_law_1954 ?_
        refine tk_xl C hmn hS hw dL_law_1955 (fun x229 hw => ?_)
        refine tk_aload_n C hl 1 dL_law_1956 rfl ?_
        refine tk_iload C hl 6 dL_law_1957 rfl ?_
        refine lv_iconst (v := 2) C.hx C.hb dL_law_1959 (by decide) ?_
        refine lv_iadd C.hx C.hb dL_law_1960 ?_
        refine tk_xl C hmn hS hw dL_law_1961 (fun x230 hw => ?_)
        obtain ⟨hv, hw⟩ := hw
        refine tw_cbd C hS (tk_runV (As := [.inl x229, .inl x230]) C hR hS (wk_X4_similarity l C.hst G 2000 (by omega) _ _ _ _ _ σ hw) hv rfl q2370 q2371 q2372 q74 q2373 pd_X4_similarity ⟨by omega, by omega⟩ hl.1 rfl (tw_r8 [] (Nat.le_of_ble_eq_true rfl)) dL_law_1962) (fun E q σ H locs hX hR hS hi => hX.elim) (fun x231 σ H locs hw hR hS => ?_)
        refine tk_dstore (L' := [(6, .inl x228), (0, .inr (some b)), (1, .inr l1), (2, .inr l2), (3, .inr l3), (4, .inr l4), (5, .inl l5)]) C hl dL_law_1965 (by decide) rfl (fun ls hl hd7 => ?_)
        refine tk_aload_n C hl 3 dL_law_1967 rfl ?_
        obtain ⟨hv, hw⟩ := hw
        refine tw_cbi C hS (tk_runV (As := []) C hR hS (wk_X4_thrown l C.hst G 2000 (by omega) _ _ _ σ hw) hv rfl q2147 q2148 q2149 q74 q2150 pd_X4_thrown ⟨by omega, by omega⟩ hl.1 rfl (tw_r8 [] (Nat.le_of_ble_eq_true rfl)) dL_law_1968) (fun E q σ H locs hX hR hS hi => hX.elim) (fun x232 σ H locs hw hR hS => ?_)
        refine tk_iload C hl 0 dL_law_1971 rfl ?_
        refine lv_icmp_eq (tgt := 1978) C.hx C.hb dL_law_1973 (by decide) (fun c1973 => ?_) (fun c1973 => ?_)
        · replace hw := hw.1 c1973
          refine tk_iload C hl 0 dL_law_1978 rfl ?_
          refine lv_if_ne (tgt := 2015) C.hx C.hb dL_law_1980 (by decide) (fun c1980 => ?_) (fun c1980 => ?_)
          · replace hw := hw.2 c1980
            exact wk_L_law_b2015 C hr hmn hnx hfr hRl hk28 _ _ _ _ _ σ _ _ _ hw hR hS (tk_sub hl [1, 2, 3, 4, 5, 6] rfl)
          · replace hw := hw.1 c1980
            refine tk_aload C hl 5 dL_law_1983 rfl ?_
            refine lv_iconst (v := 0) C.hx C.hb dL_law_1985 (by decide) ?_
            refine tk_ld C hR hw dL_law_1986 (fun x233 hw => ?_)
            refine lv_dload C.hx C.hb dL_law_1987 hd7 ?_
            refine lv_dcmp C.hx C.hb dL_law_1989 ?_
            refine lv_if_eq (tgt := 2015) C.hx C.hb dL_law_1990 (by decide) (fun c1990 => ?_) (fun c1990 => ?_)
            · replace hw := hw.1 c1990
              exact wk_L_law_b2015 C hr hmn hnx hfr hRl hk28 _ _ _ _ _ σ _ _ _ hw hR hS (tk_sub hl [1, 2, 3, 4, 5, 6] rfl)
            · replace hw := hw.2 c1990
              refine tk_aload C hl 5 dL_law_1993 rfl ?_
              refine lv_iconst (v := 0) C.hx C.hb dL_law_1995 (by decide) ?_
              refine tk_ld C hR hw dL_law_1996 (fun x234 hw => ?_)
              refine tk_aload C hl 5 dL_law_1997 rfl ?_
              refine lv_iconst (v := 0) C.hx C.hb dL_law_1999 (by decide) ?_
              refine tk_ld C hR hw dL_law_2000 (fun x235 hw => ?_)
              refine lv_dcmp C.hx C.hb dL_law_2001 ?_
              refine lv_if_eq (tgt := 2013) C.hx C.hb dL_law_2002 (by decide) (fun c2002 => ?_) (fun c2002 => ?_)
              · replace hw := hw.1 c2002
                exact wk_L_law_b2013 C hr hmn hnx hfr hRl σ _ _ _ hw hR hS (tk_sub hl [1] rfl)
              · replace hw := hw.2 c2002
                refine lv_dload C.hx C.hb dL_law_2005 hd7 ?_
                refine lv_dload C.hx C.hb dL_law_2007 hd7 ?_
                refine lv_dcmp C.hx C.hb dL_law_2009 ?_
                refine lv_if_ne (tgt := 2015) C.hx C.hb dL_law_2010 (by decide) (fun c2010 => ?_) (fun c2010 => ?_)
                · replace hw := hw.2 c2010
                  exact wk_L_law_b2015 C hr hmn hnx hfr hRl hk28 _ _ _ _ _ σ _ _ _ hw hR hS (tk_sub hl [1, 2, 3, 4, 5, 6] rfl)
                · replace hw := hw.1 c2010
                  exact wk_L_law_b2013 C hr hmn hnx hfr hRl σ _ _ _ hw hR hS (tk_sub hl [1] rfl)
        · replace hw := hw.2 c1973
          refine lv_iconst (v := 0) C.hx C.hb dL_law_1976 (by decide) ?_
          exact tw_lret C hS hr hmn dL_law_1977 hw
      replace hw := hw.2 c44_25
      by_cases c44_26 : (x1 &&& 63) = 26
      · replace hw := hw.1 c44_26
        refine lv_tableIn (tgt := 2018) (off := 1974) C.hx C.hb dL_law_44 (by rw [c44_26]; decide) (by rw [c44_26]; decide) (by rw [c44_26]; rfl) (by decide) ?_
        refine tk_aload_n C hl 1 dL_law_2018 rfl ?_
        refine tk_aload_n C hl 0 dL_law_2019 rfl ?_
        refine tk_iload C hl 5 dL_law_2020 rfl ?_
        refine lv_iconst (v := 1) C.hx C.hb dL_law_2022 (by decide) ?_
        refine lv_iadd C.hx C.hb dL_law_2023 ?_
        refine tk_xl C hmn hS hw dL_law_2024 (fun x236 hw => ?_)
        refine tk_aload_n C hl 0 dL_law_2025 rfl ?_
        refine tk_iload C hl 5 dL_law_2026 rfl ?_
        refine lv_iconst (v := 2) C.hx C.hb dL_law_2028 (by decide) ?_
        refine lv_iadd C.hx C.hb dL_law_2029 ?_
        refine tk_xl C hmn hS hw dL_law_2030 (fun x237 hw => ?_)
        refine tk_aload_n C hl 3 dL_law_2031 rfl ?_
        refine tw_cbi C hS (tw_runSW (As := [.inr l1, .inl x236, .inl x237, .inr l3]) C hR hS (wk_X0_diff l C.hst G 2000 (by omega) _ _ _ _ _ _ σ hw) q1819 q1820 q63 q1821 pd_X0_diff ⟨by omega, by omega⟩ hl.1 rfl (tw_r8 [] (Nat.le_of_ble_eq_true rfl)) dL_law_2032) (fun E q σ H locs hX hR hS hi => hX.elim) (fun x238 σ H locs hw hR hS => ?_)
        refine tk_istore (L' := [(6, .inl x238), (0, .inr (some b)), (1, .inr l1), (2, .inr l2), (3, .inr l3), (4, .inr l4), (5, .inl l5)]) C hl dL_law_2035 (by decide) rfl (fun ls hl => ?_)
        refine tk_aload_n C hl 3 dL_law_2037 rfl ?_
        refine tk_aload_n C hl 1 dL_law_2038 rfl ?_
        refine tk_iload C hl 6 dL_law_2039 rfl ?_
        refine lv_iconst (v := 1) C.hx C.hb dL_law_2041 (by decide) ?_
        refine lv_iadd C.hx C.hb dL_law_2042 ?_
        refine tk_xl C hmn hS hw dL_law_2043 (fun x239 hw => ?_)
        refine tk_aload_n C hl 1 dL_law_2044 rfl ?_
        refine tk_iload C hl 6 dL_law_2045 rfl ?_
        refine lv_iconst (v := 2) C.hx C.hb dL_law_2047 (by decide) ?_
        refine lv_iadd C.hx C.hb dL_law_2048 ?_
        refine tk_xl C hmn hS hw dL_law_2049 (fun x240 hw => ?_)
        obtain ⟨hv, hw⟩ := hw
        refine tw_cbi C hS (tk_runV (As := [.inl x239, .inl x240]) C hR hS (wk_X4_diff l C.hst G 2000 (by omega) _ _ _ _ _ σ hw) hv rfl q2374 q2375 q2376 q74 q2377 pd_X4_diff ⟨by omega, by omega⟩ hl.1 rfl (tw_r8 [] (Nat.le_of_ble_eq_true rfl)) dL_law_2050) (fun E q σ H locs hX hR hS hi => hX.elim) (fun x241 σ H locs hw hR hS => ?_)
        refine tk_istore (L' := [(7, .inl x241), (6, .inl x238), (0, .inr (some b)), (1, .inr l1), (2, .inr l2), (3, .inr l3), (4, .inr l4), (5, .inl l5)]) C hl dL_law_2053 (by decide) rfl (fun ls hl => ?_)
        refine tk_aload_n C hl 4 dL_law_2055 rfl ?_
        obtain ⟨hv, hw⟩ := hw
        refine tw_cbi C hS (tk_runV (As := []) C hR hS (wk_X4_thrown l C.hst G 2000 (by omega) _ _ _ σ hw) hv rfl q2147 q2148 q2149 q74 q2150 pd_X4_thrown ⟨by omega, by omega⟩ hl.1 rfl (tw_r8 [] (Nat.le_of_ble_eq_true rfl)) dL_law_2056) (fun E q σ H locs hX hR hS hi => hX.elim) (fun x242 σ H locs hw hR hS => ?_)
        refine tk_iload C hl 1 dL_law_2059 rfl ?_
        refine lv_icmp_eq (tgt := 2066) C.hx C.hb dL_law_2061 (by decide) (fun c2061 => ?_) (fun c2061 => ?_)
        · replace hw := hw.1 c2061
          refine tk_iload C hl 1 dL_law_2066 rfl ?_
          refine lv_if_ne (tgt := 2083) C.hx C.hb dL_law_2068 (by decide) (fun c2068 => ?_) (fun c2068 => ?_)
          · replace hw := hw.2 c2068
            exact wk_L_law_b2083 C hr hmn hnx hfr hRl hk28 _ _ _ _ _ σ _ _ _ hw hR hS (tk_sub hl [2, 3, 4, 5, 6, 7] rfl)
          · replace hw := hw.1 c2068
            refine tk_aload_n C hl 5 dL_law_2071 rfl ?_
            refine lv_iconst (v := 0) C.hx C.hb dL_law_2072 (by decide) ?_
            refine tk_ll C hR hw dL_law_2073 (fun x243 hw => ?_)
            refine tk_iload C hl 0 dL_law_2074 rfl ?_
            refine lv_i2l (v := x241.toInt64) C.hx C.hb dL_law_2076 rfl ?_
            refine tk_lcmp C dL_law_2077 ?_
            refine lv_if_eq (tgt := 2083) C.hx C.hb dL_law_2078 (by decide) (fun c2078 => ?_) (fun c2078 => ?_)
            · replace hw := hw.1 c2078
              exact wk_L_law_b2083 C hr hmn hnx hfr hRl hk28 _ _ _ _ _ σ _ _ _ hw hR hS (tk_sub hl [2, 3, 4, 5, 6, 7] rfl)
            · replace hw := hw.2 c2078
              refine lv_iconst (v := 0) C.hx C.hb dL_law_2081 (by decide) ?_
              exact tw_lret C hS hr hmn dL_law_2082 hw
        · replace hw := hw.2 c2061
          refine lv_iconst (v := 0) C.hx C.hb dL_law_2064 (by decide) ?_
          exact tw_lret C hS hr hmn dL_law_2065 hw
      replace hw := hw.2 c44_26
      by_cases c44_27 : (x1 &&& 63) = 27
      · replace hw := hw.1 c44_27
        refine lv_tableIn (tgt := 2086) (off := 2042) C.hx C.hb dL_law_44 (by rw [c44_27]; decide) (by rw [c44_27]; decide) (by rw [c44_27]; rfl) (by decide) ?_
        refine tk_aload_n C hl 1 dL_law_2086 rfl ?_
        refine tk_aload_n C hl 3 dL_law_2087 rfl ?_
        refine tw_cbi C hS (tw_runSW (As := [.inr l1, .inr l3]) C hR hS (wk_X0_operations l C.hst G 2000 (by omega) _ _ _ _ σ hw) q1907 q1908 q63 q1909 pd_X0_operations ⟨by omega, by omega⟩ hl.1 rfl (tw_r8 [] (Nat.le_of_ble_eq_true rfl)) dL_law_2088) (fun E q σ H locs hX hR hS hi => hX.elim) (fun x245 σ H locs hw hR hS => ?_)
        refine tk_istore (L' := [(6, .inl x245), (0, .inr (some b)), (1, .inr l1), (2, .inr l2), (3, .inr l3), (4, .inr l4), (5, .inl l5)]) C hl dL_law_2091 (by decide) rfl (fun ls hl => ?_)
        refine tk_aload_n C hl 3 dL_law_2093 rfl ?_
        obtain ⟨hv, hw⟩ := hw
        refine tw_cbi C hS (tk_runV (As := []) C hR hS (wk_X4_operations l C.hst G 2000 (by omega) _ _ _ σ hw) hv rfl q2394 q2395 q2396 q74 q2397 pd_X4_operations ⟨by omega, by omega⟩ hl.1 rfl (tw_r8 [] (Nat.le_of_ble_eq_true rfl)) dL_law_2094) (fun E q σ H locs hX hR hS hi => hX.elim) (fun x246 σ H locs hw hR hS => ?_)
        refine tk_istore (L' := [(7, .inl x246), (6, .inl x245), (0, .inr (some b)), (1, .inr l1), (2, .inr l2), (3, .inr l3), (4, .inr l4), (5, .inl l5)]) C hl dL_law_2097 (by decide) rfl (fun ls hl => ?_)
        refine tk_aload_n C hl 4 dL_law_2099 rfl ?_
        obtain ⟨hv, hw⟩ := hw
        refine tw_cbi C hS (tk_runV (As := []) C hR hS (wk_X4_thrown l C.hst G 2000 (by omega) _ _ _ σ hw) hv rfl q2147 q2148 q2149 q74 q2150 pd_X4_thrown ⟨by omega, by omega⟩ hl.1 rfl (tw_r8 [] (Nat.le_of_ble_eq_true rfl)) dL_law_2100) (fun E q σ H locs hX hR hS hi => hX.elim) (fun x247 σ H locs hw hR hS => ?_)
        refine tk_iload C hl 1 dL_law_2103 rfl ?_
        refine lv_icmp_eq (tgt := 2110) C.hx C.hb dL_law_2105 (by decide) (fun c2105 => ?_) (fun c2105 => ?_)
        · replace hw := hw.1 c2105
          refine tk_iload C hl 1 dL_law_2110 rfl ?_
          refine lv_if_ne (tgt := 2127) C.hx C.hb dL_law_2112 (by decide) (fun c2112 => ?_) (fun c2112 => ?_)
          · replace hw := hw.2 c2112
            exact wk_L_law_b2127 C hr hmn hnx hfr hRl hk28 _ _ _ _ _ σ _ _ _ hw hR hS (tk_sub hl [2, 3, 4, 5, 6, 7] rfl)
          · replace hw := hw.1 c2112
            refine tk_aload_n C hl 5 dL_law_2115 rfl ?_
            refine lv_iconst (v := 0) C.hx C.hb dL_law_2116 (by decide) ?_
            refine tk_ll C hR hw dL_law_2117 (fun x248 hw => ?_)
            refine tk_iload C hl 0 dL_law_2118 rfl ?_
            refine lv_i2l (v := x246.toInt64) C.hx C.hb dL_law_2120 rfl ?_
            refine tk_lcmp C dL_law_2121 ?_
            refine lv_if_eq (tgt := 2127) C.hx C.hb dL_law_2122 (by decide) (fun c2122 => ?_) (fun c2122 => ?_)
            · replace hw := hw.1 c2122
              exact wk_L_law_b2127 C hr hmn hnx hfr hRl hk28 _ _ _ _ _ σ _ _ _ hw hR hS (tk_sub hl [2, 3, 4, 5, 6, 7] rfl)
            · replace hw := hw.2 c2122
              refine lv_iconst (v := 0) C.hx C.hb dL_law_2125 (by decide) ?_
              exact tw_lret C hS hr hmn dL_law_2126 hw
        · replace hw := hw.2 c2105
          refine lv_iconst (v := 0) C.hx C.hb dL_law_2108 (by decide) ?_
          exact tw_lret C hS hr hmn dL_law_2109 hw
      replace hw := hw.2 c44_27
      by_cases c44_28 : (x1 &&& 63) = 28
      · replace hw := hw.1 c44_28
        refine lv_tableIn (tgt := 2130) (off := 2086) C.hx C.hb dL_law_44 (by rw [c44_28]; decide) (by rw [c44_28]; decide) (by rw [c44_28]; rfl) (by decide) ?_
        refine tk_aload_n C hl 1 dL_law_2130 rfl ?_
        refine tk_aload_n C hl 0 dL_law_2131 rfl ?_
        refine tk_iload C hl 5 dL_law_2132 rfl ?_
        refine lv_iconst (v := 1) C.hx C.hb dL_law_2134 (by decide) ?_
        refine lv_iadd C.hx C.hb dL_law_2135 ?_
        refine tk_xl C hmn hS hw dL_law_2136 (fun x250 hw => ?_)
        refine tk_aload_n C hl 3 dL_law_2137 rfl ?_
        refine tw_cbi C hS (tw_runSW (As := [.inr l1, .inl x250, .inr l3]) C hR hS (wk_X0_opKind l C.hst G 2000 (by omega) _ _ _ _ _ σ hw) q1914 q1915 q63 q1916 pd_X0_opKind ⟨by omega, by omega⟩ hl.1 rfl (tw_r8 [] (Nat.le_of_ble_eq_true rfl)) dL_law_2138) (fun E q σ H locs hX hR hS hi => hX.elim) (fun x251 σ H locs hw hR hS => ?_)
        refine tk_istore (L' := [(6, .inl x251), (0, .inr (some b)), (1, .inr l1), (2, .inr l2), (3, .inr l3), (4, .inr l4), (5, .inl l5)]) C hl dL_law_2141 (by decide) rfl (fun ls hl => ?_)
        refine tk_aload_n C hl 3 dL_law_2143 rfl ?_
        refine tk_aload_n C hl 1 dL_law_2144 rfl ?_
        refine tk_iload C hl 6 dL_law_2145 rfl ?_
        refine lv_iconst (v := 1) C.hx C.hb dL_law_2147 (by decide) ?_
        refine lv_iadd C.hx C.hb dL_law_2148 ?_
        refine tk_xl C hmn hS hw dL_law_2149 (fun x252 hw => ?_)
        obtain ⟨hv, hw⟩ := hw
        refine tw_cbi C hS (tk_runV (As := [.inl x252]) C hR hS (wk_X4_opKind l C.hst G 2000 (by omega) _ _ _ _ σ hw) hv rfl q2402 q2403 q2404 q74 q2405 pd_X4_opKind ⟨by omega, by omega⟩ hl.1 rfl (tw_r8 [] (Nat.le_of_ble_eq_true rfl)) dL_law_2150) (fun E q σ H locs hX hR hS hi => hX.elim) (fun x253 σ H locs hw hR hS => ?_)
        refine tk_istore (L' := [(7, .inl x253), (6, .inl x251), (0, .inr (some b)), (1, .inr l1), (2, .inr l2), (3, .inr l3), (4, .inr l4), (5, .inl l5)]) C hl dL_law_2153 (by decide) rfl (fun ls hl => ?_)
        refine tk_aload_n C hl 4 dL_law_2155 rfl ?_
        obtain ⟨hv, hw⟩ := hw
        refine tw_cbi C hS (tk_runV (As := []) C hR hS (wk_X4_thrown l C.hst G 2000 (by omega) _ _ _ σ hw) hv rfl q2147 q2148 q2149 q74 q2150 pd_X4_thrown ⟨by omega, by omega⟩ hl.1 rfl (tw_r8 [] (Nat.le_of_ble_eq_true rfl)) dL_law_2156) (fun E q σ H locs hX hR hS hi => hX.elim) (fun x254 σ H locs hw hR hS => ?_)
        refine tk_iload C hl 1 dL_law_2159 rfl ?_
        refine lv_icmp_eq (tgt := 2166) C.hx C.hb dL_law_2161 (by decide) (fun c2161 => ?_) (fun c2161 => ?_)
        · replace hw := hw.1 c2161
          refine tk_iload C hl 1 dL_law_2166 rfl ?_
          refine lv_if_ne (tgt := 2183) C.hx C.hb dL_law_2168 (by decide) (fun c2168 => ?_) (fun c2168 => ?_)
          · replace hw := hw.2 c2168
            exact wk_L_law_b2183 C hr hmn hnx hfr hRl hk28 _ _ _ _ _ σ _ _ _ hw hR hS (tk_sub hl [2, 3, 4, 5, 6, 7] rfl)
          · replace hw := hw.1 c2168
            refine tk_aload_n C hl 5 dL_law_2171 rfl ?_
            refine lv_iconst (v := 0) C.hx C.hb dL_law_2172 (by decide) ?_
            refine tk_ll C hR hw dL_law_2173 (fun x255 hw => ?_)
            refine tk_iload C hl 0 dL_law_2174 rfl ?_
            refine lv_i2l (v := x253.toInt64) C.hx C.hb dL_law_2176 rfl ?_
            refine tk_lcmp C dL_law_2177 ?_
            refine lv_if_eq (tgt := 2183) C.hx C.hb dL_law_2178 (by decide) (fun c2178 => ?_) (fun c2178 => ?_)
            · replace hw := hw.1 c2178
              exact wk_L_law_b2183 C hr hmn hnx hfr hRl hk28 _ _ _ _ _ σ _ _ _ hw hR hS (tk_sub hl [2, 3, 4, 5, 6, 7] rfl)
            · replace hw := hw.2 c2178
              refine lv_iconst (v := 0) C.hx C.hb dL_law_2181 (by decide) ?_
              exact tw_lret C hS hr hmn dL_law_2182 hw
        · replace hw := hw.2 c2161
          refine lv_iconst (v := 0) C.hx C.hb dL_law_2164 (by decide) ?_
          exact tw_lret C hS hr hmn dL_law_2165 hw
      replace hw := hw.2 c44_28
      by_cases c44_29 : (x1 &&& 63) = 29
      · replace hw := hw.1 c44_29
        refine lv_tableIn (tgt := 2186) (off := 2142) C.hx C.hb dL_law_44 (by rw [c44_29]; decide) (by rw [c44_29]; decide) (by rw [c44_29]; rfl) (by decide) ?_
        refine tk_aload_n C hl 1 dL_law_2186 rfl ?_
        refine tk_aload_n C hl 0 dL_law_2187 rfl ?_
        refine tk_iload C hl 5 dL_law_2188 rfl ?_
        refine lv_iconst (v := 1) C.hx C.hb dL_law_2190 (by decide) ?_
        refine lv_iadd C.hx C.hb dL_law_2191 ?_
        refine tk_xl C hmn hS hw dL_law_2192 (fun x257 hw => ?_)
        refine tk_aload_n C hl 3 dL_law_2193 rfl ?_
        refine tw_cbi C hS (tw_runSW (As := [.inr l1, .inl x257, .inr l3]) C hR hS (wk_X0_opNode l C.hst G 2000 (by omega) _ _ _ _ _ σ hw) q1925 q1926 q63 q1927 pd_X0_opNode ⟨by omega, by omega⟩ hl.1 rfl (tw_r8 [] (Nat.le_of_ble_eq_true rfl)) dL_law_2194) (fun E q σ H locs hX hR hS hi => hX.elim) (fun x258 σ H locs hw hR hS => ?_)
        refine tk_istore (L' := [(6, .inl x258), (0, .inr (some b)), (1, .inr l1), (2, .inr l2), (3, .inr l3), (4, .inr l4), (5, .inl l5)]) C hl dL_law_2197 (by decide) rfl (fun ls hl => ?_)
        refine tk_aload_n C hl 3 dL_law_2199 rfl ?_
        refine tk_aload_n C hl 1 dL_law_2200 rfl ?_
        refine tk_iload C hl 6 dL_law_2201 rfl ?_
        refine lv_iconst (v := 1) C.hx C.hb dL_law_2203 (by decide) ?_
        refine lv_iadd C.hx C.hb dL_law_2204 ?_
        refine tk_xl C hmn hS hw dL_law_2205 (fun x259 hw => ?_)
        obtain ⟨hv, hw⟩ := hw
        refine tw_cbi C hS (tk_runV (As := [.inl x259]) C hR hS (wk_X4_opNode l C.hst G 2000 (by omega) _ _ _ _ σ hw) hv rfl q2410 q2411 q2412 q74 q2413 pd_X4_opNode ⟨by omega, by omega⟩ hl.1 rfl (tw_r8 [] (Nat.le_of_ble_eq_true rfl)) dL_law_2206) (fun E q σ H locs hX hR hS hi => hX.elim) (fun x260 σ H locs hw hR hS => ?_)
        refine tk_istore (L' := [(7, .inl x260), (6, .inl x258), (0, .inr (some b)), (1, .inr l1), (2, .inr l2), (3, .inr l3), (4, .inr l4), (5, .inl l5)]) C hl dL_law_2209 (by decide) rfl (fun ls hl => ?_)
        refine tk_aload_n C hl 4 dL_law_2211 rfl ?_
        obtain ⟨hv, hw⟩ := hw
        refine tw_cbi C hS (tk_runV (As := []) C hR hS (wk_X4_thrown l C.hst G 2000 (by omega) _ _ _ σ hw) hv rfl q2147 q2148 q2149 q74 q2150 pd_X4_thrown ⟨by omega, by omega⟩ hl.1 rfl (tw_r8 [] (Nat.le_of_ble_eq_true rfl)) dL_law_2212) (fun E q σ H locs hX hR hS hi => hX.elim) (fun x261 σ H locs hw hR hS => ?_)
        refine tk_iload C hl 1 dL_law_2215 rfl ?_
        refine lv_icmp_eq (tgt := 2222) C.hx C.hb dL_law_2217 (by decide) (fun c2217 => ?_) (fun c2217 => ?_)
        · replace hw := hw.1 c2217
          refine tk_iload C hl 1 dL_law_2222 rfl ?_
          refine lv_if_ne (tgt := 2239) C.hx C.hb dL_law_2224 (by decide) (fun c2224 => ?_) (fun c2224 => ?_)
          · replace hw := hw.2 c2224
            exact wk_L_law_b2239 C hr hmn hnx hfr hRl hk28 _ _ _ _ _ σ _ _ _ hw hR hS (tk_sub hl [2, 3, 4, 5, 6, 7] rfl)
          · replace hw := hw.1 c2224
            refine tk_aload_n C hl 5 dL_law_2227 rfl ?_
            refine lv_iconst (v := 0) C.hx C.hb dL_law_2228 (by decide) ?_
            refine tk_ll C hR hw dL_law_2229 (fun x262 hw => ?_)
            refine tk_iload C hl 0 dL_law_2230 rfl ?_
            refine lv_i2l (v := x260.toInt64) C.hx C.hb dL_law_2232 rfl ?_
            refine tk_lcmp C dL_law_2233 ?_
            refine lv_if_eq (tgt := 2239) C.hx C.hb dL_law_2234 (by decide) (fun c2234 => ?_) (fun c2234 => ?_)
            · replace hw := hw.1 c2234
              exact wk_L_law_b2239 C hr hmn hnx hfr hRl hk28 _ _ _ _ _ σ _ _ _ hw hR hS (tk_sub hl [2, 3, 4, 5, 6, 7] rfl)
            · replace hw := hw.2 c2234
              refine lv_iconst (v := 0) C.hx C.hb dL_law_2237 (by decide) ?_
              exact tw_lret C hS hr hmn dL_law_2238 hw
        · replace hw := hw.2 c2217
          refine lv_iconst (v := 0) C.hx C.hb dL_law_2220 (by decide) ?_
          exact tw_lret C hS hr hmn dL_law_2221 hw
      replace hw := hw.2 c44_29
      by_cases c44_30 : (x1 &&& 63) = 30
      · replace hw := hw.1 c44_30
        refine lv_tableIn (tgt := 2242) (off := 2198) C.hx C.hb dL_law_44 (by rw [c44_30]; decide) (by rw [c44_30]; decide) (by rw [c44_30]; rfl) (by decide) ?_
        refine tk_aload_n C hl 1 dL_law_2242 rfl ?_
        refine tk_aload_n C hl 0 dL_law_2243 rfl ?_
        refine tk_iload C hl 5 dL_law_2244 rfl ?_
        refine lv_iconst (v := 1) C.hx C.hb dL_law_2246 (by decide) ?_
        refine lv_iadd C.hx C.hb dL_law_2247 ?_
        refine tk_xl C hmn hS hw dL_law_2248 (fun x264 hw => ?_)
        refine tk_aload_n C hl 3 dL_law_2249 rfl ?_
        refine tw_cbi C hS (tw_runSW (As := [.inr l1, .inl x264, .inr l3]) C hR hS (wk_X0_opTarget l C.hst G 2000 (by omega) _ _ _ _ _ σ hw) q1932 q1933 q63 q1934 pd_X0_opTarget ⟨by omega, by omega⟩ hl.1 rfl (tw_r8 [] (Nat.le_of_ble_eq_true rfl)) dL_law_2250) (fun E q σ H locs hX hR hS hi => hX.elim) (fun x265 σ H locs hw hR hS => ?_)
        refine tk_istore (L' := [(6, .inl x265), (0, .inr (some b)), (1, .inr l1), (2, .inr l2), (3, .inr l3), (4, .inr l4), (5, .inl l5)]) C hl dL_law_2253 (by decide) rfl (fun ls hl => ?_)
        refine tk_aload_n C hl 3 dL_law_2255 rfl ?_
        refine tk_aload_n C hl 1 dL_law_2256 rfl ?_
        refine tk_iload C hl 6 dL_law_2257 rfl ?_
        refine lv_iconst (v := 1) C.hx C.hb dL_law_2259 (by decide) ?_
        refine lv_iadd C.hx C.hb dL_law_2260 ?_
        refine tk_xl C hmn hS hw dL_law_2261 (fun x266 hw => ?_)
        obtain ⟨hv, hw⟩ := hw
        refine tw_cbi C hS (tk_runV (As := [.inl x266]) C hR hS (wk_X4_opTarget l C.hst G 2000 (by omega) _ _ _ _ σ hw) hv rfl q2414 q2415 q2416 q74 q2417 pd_X4_opTarget ⟨by omega, by omega⟩ hl.1 rfl (tw_r8 [] (Nat.le_of_ble_eq_true rfl)) dL_law_2262) (fun E q σ H locs hX hR hS hi => hX.elim) (fun x267 σ H locs hw hR hS => ?_)
        refine tk_istore (L' := [(7, .inl x267), (6, .inl x265), (0, .inr (some b)), (1, .inr l1), (2, .inr l2), (3, .inr l3), (4, .inr l4), (5, .inl l5)]) C hl dL_law_2265 (by decide) rfl (fun ls hl => ?_)
        refine tk_aload_n C hl 4 dL_law_2267 rfl ?_
        obtain ⟨hv, hw⟩ := hw
        refine tw_cbi C hS (tk_runV (As := []) C hR hS (wk_X4_thrown l C.hst G 2000 (by omega) _ _ _ σ hw) hv rfl q2147 q2148 q2149 q74 q2150 pd_X4_thrown ⟨by omega, by omega⟩ hl.1 rfl (tw_r8 [] (Nat.le_of_ble_eq_true rfl)) dL_law_2268) (fun E q σ H locs hX hR hS hi => hX.elim) (fun x268 σ H locs hw hR hS => ?_)
        refine tk_iload C hl 1 dL_law_2271 rfl ?_
        refine lv_icmp_eq (tgt := 2278) C.hx C.hb dL_law_2273 (by decide) (fun c2273 => ?_) (fun c2273 => ?_)
        · replace hw := hw.1 c2273
          refine tk_iload C hl 1 dL_law_2278 rfl ?_
          refine lv_if_ne (tgt := 2295) C.hx C.hb dL_law_2280 (by decide) (fun c2280 => ?_) (fun c2280 => ?_)
          · replace hw := hw.2 c2280
            exact wk_L_law_b2295 C hr hmn hnx hfr hRl hk28 _ _ _ _ _ σ _ _ _ hw hR hS (tk_sub hl [2, 3, 4, 5, 6, 7] rfl)
          · replace hw := hw.1 c2280
            refine tk_aload_n C hl 5 dL_law_2283 rfl ?_
            refine lv_iconst (v := 0) C.hx C.hb dL_law_2284 (by decide) ?_
            refine tk_ll C hR hw dL_law_2285 (fun x269 hw => ?_)
            refine tk_iload C hl 0 dL_law_2286 rfl ?_
            refine lv_i2l (v := x267.toInt64) C.hx C.hb dL_law_2288 rfl ?_
            refine tk_lcmp C dL_law_2289 ?_
            refine lv_if_eq (tgt := 2295) C.hx C.hb dL_law_2290 (by decide) (fun c2290 => ?_) (fun c2290 => ?_)
            · replace hw := hw.1 c2290
              exact wk_L_law_b2295 C hr hmn hnx hfr hRl hk28 _ _ _ _ _ σ _ _ _ hw hR hS (tk_sub hl [2, 3, 4, 5, 6, 7] rfl)
            · replace hw := hw.2 c2290
              refine lv_iconst (v := 0) C.hx C.hb dL_law_2293 (by decide) ?_
              exact tw_lret C hS hr hmn dL_law_2294 hw
        · replace hw := hw.2 c2273
          refine lv_iconst (v := 0) C.hx C.hb dL_law_2276 (by decide) ?_
          exact tw_lret C hS hr hmn dL_law_2277 hw
      replace hw := hw.2 c44_30
      by_cases c44_31 : (x1 &&& 63) = 31
      · replace hw := hw.1 c44_31
        refine lv_tableIn (tgt := 2298) (off := 2254) C.hx C.hb dL_law_44 (by rw [c44_31]; decide) (by rw [c44_31]; decide) (by rw [c44_31]; rfl) (by decide) ?_
        refine tk_aload_n C hl 1 dL_law_2298 rfl ?_
        refine tk_aload_n C hl 0 dL_law_2299 rfl ?_
        refine tk_iload C hl 5 dL_law_2300 rfl ?_
        refine lv_iconst (v := 1) C.hx C.hb dL_law_2302 (by decide) ?_
        refine lv_iadd C.hx C.hb dL_law_2303 ?_
        refine tk_xl C hmn hS hw dL_law_2304 (fun x271 hw => ?_)
        refine tk_aload_n C hl 3 dL_law_2305 rfl ?_
        refine tw_cbi C hS (tw_runSW (As := [.inr l1, .inl x271, .inr l3]) C hR hS (wk_X0_partner l C.hst G 2000 (by omega) _ _ _ _ _ σ hw) q1939 q1940 q63 q1941 pd_X0_partner ⟨by omega, by omega⟩ hl.1 rfl (tw_r8 [] (Nat.le_of_ble_eq_true rfl)) dL_law_2306) (fun E q σ H locs hX hR hS hi => hX.elim) (fun x272 σ H locs hw hR hS => ?_)
        refine tk_istore (L' := [(6, .inl x272), (0, .inr (some b)), (1, .inr l1), (2, .inr l2), (3, .inr l3), (4, .inr l4), (5, .inl l5)]) C hl dL_law_2309 (by decide) rfl (fun ls hl => ?_)
        refine tk_aload_n C hl 3 dL_law_2311 rfl ?_
        refine tk_aload_n C hl 1 dL_law_2312 rfl ?_
        refine tk_iload C hl 6 dL_law_2313 rfl ?_
        refine lv_iconst (v := 1) C.hx C.hb dL_law_2315 (by decide) ?_
        refine lv_iadd C.hx C.hb dL_law_2316 ?_
        refine tk_xl C hmn hS hw dL_law_2317 (fun x273 hw => ?_)
        obtain ⟨hv, hw⟩ := hw
        refine tw_cbi C hS (tk_runV (As := [.inl x273]) C hR hS (wk_X4_partner l C.hst G 2000 (by omega) _ _ _ _ σ hw) hv rfl q2418 q2419 q2420 q74 q2421 pd_X4_partner ⟨by omega, by omega⟩ hl.1 rfl (tw_r8 [] (Nat.le_of_ble_eq_true rfl)) dL_law_2318) (fun E q σ H locs hX hR hS hi => hX.elim) (fun x274 σ H locs hw hR hS => ?_)
        refine tk_istore (L' := [(7, .inl x274), (6, .inl x272), (0, .inr (some b)), (1, .inr l1), (2, .inr l2), (3, .inr l3), (4, .inr l4), (5, .inl l5)]) C hl dL_law_2321 (by decide) rfl (fun ls hl => ?_)
        refine tk_aload_n C hl 4 dL_law_2323 rfl ?_
        obtain ⟨hv, hw⟩ := hw
        refine tw_cbi C hS (tk_runV (As := []) C hR hS (wk_X4_thrown l C.hst G 2000 (by omega) _ _ _ σ hw) hv rfl q2147 q2148 q2149 q74 q2150 pd_X4_thrown ⟨by omega, by omega⟩ hl.1 rfl (tw_r8 [] (Nat.le_of_ble_eq_true rfl)) dL_law_2324) (fun E q σ H locs hX hR hS hi => hX.elim) (fun x275 σ H locs hw hR hS => ?_)
        refine tk_iload C hl 1 dL_law_2327 rfl ?_
        refine lv_icmp_eq (tgt := 2334) C.hx C.hb dL_law_2329 (by decide) (fun c2329 => ?_) (fun c2329 => ?_)
        · replace hw := hw.1 c2329
          refine tk_iload C hl 1 dL_law_2334 rfl ?_
          refine lv_if_ne (tgt := 2351) C.hx C.hb dL_law_2336 (by decide) (fun c2336 => ?_) (fun c2336 => ?_)
          · replace hw := hw.2 c2336
            exact wk_L_law_b2351 C hr hmn hnx hfr hRl hk28 _ _ _ _ _ σ _ _ _ hw hR hS (tk_sub hl [2, 3, 4, 5, 6, 7] rfl)
          · replace hw := hw.1 c2336
            refine tk_aload_n C hl 5 dL_law_2339 rfl ?_
            refine lv_iconst (v := 0) C.hx C.hb dL_law_2340 (by decide) ?_
            refine tk_ll C hR hw dL_law_2341 (fun x276 hw => ?_)
            refine tk_iload C hl 0 dL_law_2342 rfl ?_
            refine lv_i2l (v := x274.toInt64) C.hx C.hb dL_law_2344 rfl ?_
            refine tk_lcmp C dL_law_2345 ?_
            refine lv_if_eq (tgt := 2351) C.hx C.hb dL_law_2346 (by decide) (fun c2346 => ?_) (fun c2346 => ?_)
            · replace hw := hw.1 c2346
              exact wk_L_law_b2351 C hr hmn hnx hfr hRl hk28 _ _ _ _ _ σ _ _ _ hw hR hS (tk_sub hl [2, 3, 4, 5, 6, 7] rfl)
            · replace hw := hw.2 c2346
              refine lv_iconst (v := 0) C.hx C.hb dL_law_2349 (by decide) ?_
              exact tw_lret C hS hr hmn dL_law_2350 hw
        · replace hw := hw.2 c2329
          refine lv_iconst (v := 0) C.hx C.hb dL_law_2332 (by decide) ?_
          exact tw_lret C hS hr hmn dL_law_2333 hw
      replace hw := hw.2 c44_31
      by_cases c44_32 : (x1 &&& 63) = 32
      · replace hw := hw.1 c44_32
        refine lv_tableIn (tgt := 2354) (off := 2310) C.hx C.hb dL_law_44 (by rw [c44_32]; decide) (by rw [c44_32]; decide) (by rw [c44_32]; rfl) (by decide) ?_
        refine tk_aload_n C hl 1 dL_law_2354 rfl ?_
        refine tk_aload_n C hl 3 dL_law_2355 rfl ?_
        refine tw_cbi C hS (tw_runSW (As := [.inr l1, .inr l3]) C hR hS (wk_X0_moves l C.hst G 2000 (by omega) _ _ _ _ σ hw) q1946 q1947 q63 q1948 pd_X0_moves ⟨by omega, by omega⟩ hl.1 rfl (tw_r8 [] (Nat.le_of_ble_eq_true rfl)) dL_law_2356) (fun E q σ H locs hX hR hS hi => hX.elim) (fun x278 σ H locs hw hR hS => ?_)
        refine tk_istore (L' := [(6, .inl x278), (0, .inr (some b)), (1, .inr l1), (2, .inr l2), (3, .inr l3), (4, .inr l4), (5, .inl l5)]) C hl dL_law_2359 (by decide) rfl (fun ls hl => ?_)
        refine tk_aload_n C hl 3 dL_law_2361 rfl ?_
        obtain ⟨hv, hw⟩ := hw
        refine tw_cbi C hS (tk_runV (As := []) C hR hS (wk_X4_moves l C.hst G 2000 (by omega) _ _ _ σ hw) hv rfl q2422 q2423 q2424 q74 q2425 pd_X4_moves ⟨by omega, by omega⟩ hl.1 rfl (tw_r8 [] (Nat.le_of_ble_eq_true rfl)) dL_law_2362) (fun E q σ H locs hX hR hS hi => hX.elim) (fun x279 σ H locs hw hR hS => ?_)
        refine tk_istore (L' := [(7, .inl x279), (6, .inl x278), (0, .inr (some b)), (1, .inr l1), (2, .inr l2), (3, .inr l3), (4, .inr l4), (5, .inl l5)]) C hl dL_law_2365 (by decide) rfl (fun ls hl => ?_)
        refine tk_aload_n C hl 4 dL_law_2367 rfl ?_
        obtain ⟨hv, hw⟩ := hw
        refine tw_cbi C hS (tk_runV (As := []) C hR hS (wk_X4_thrown l C.hst G 2000 (by omega) _ _ _ σ hw) hv rfl q2147 q2148 q2149 q74 q2150 pd_X4_thrown ⟨by omega, by omega⟩ hl.1 rfl (tw_r8 [] (Nat.le_of_ble_eq_true rfl)) dL_law_2368) (fun E q σ H locs hX hR hS hi => hX.elim) (fun x280 σ H locs hw hR hS => ?_)
        refine tk_iload C hl 1 dL_law_2371 rfl ?_
        refine lv_icmp_eq (tgt := 2378) C.hx C.hb dL_law_2373 (by decide) (fun c2373 => ?_) (fun c2373 => ?_)
        · replace hw := hw.1 c2373
          refine tk_iload C hl 1 dL_law_2378 rfl ?_
          refine lv_if_ne (tgt := 2395) C.hx C.hb dL_law_2380 (by decide) (fun c2380 => ?_) (fun c2380 => ?_)
          · replace hw := hw.2 c2380
            exact wk_L_law_b2395 C hr hmn hnx hfr hRl hk28 _ _ _ _ _ σ _ _ _ hw hR hS (tk_sub hl [2, 3, 4, 5, 6, 7] rfl)
          · replace hw := hw.1 c2380
            refine tk_aload_n C hl 5 dL_law_2383 rfl ?_
            refine lv_iconst (v := 0) C.hx C.hb dL_law_2384 (by decide) ?_
            refine tk_ll C hR hw dL_law_2385 (fun x281 hw => ?_)
            refine tk_iload C hl 0 dL_law_2386 rfl ?_
            refine lv_i2l (v := x279.toInt64) C.hx C.hb dL_law_2388 rfl ?_
            refine tk_lcmp C dL_law_2389 ?_
            refine lv_if_eq (tgt := 2395) C.hx C.hb dL_law_2390 (by decide) (fun c2390 => ?_) (fun c2390 => ?_)
            · replace hw := hw.1 c2390
              exact wk_L_law_b2395 C hr hmn hnx hfr hRl hk28 _ _ _ _ _ σ _ _ _ hw hR hS (tk_sub hl [2, 3, 4, 5, 6, 7] rfl)
            · replace hw := hw.2 c2390
              refine lv_iconst (v := 0) C.hx C.hb dL_law_2393 (by decide) ?_
              exact tw_lret C hS hr hmn dL_law_2394 hw
        · replace hw := hw.2 c2373
          refine lv_iconst (v := 0) C.hx C.hb dL_law_2376 (by decide) ?_
          exact tw_lret C hS hr hmn dL_law_2377 hw
      replace hw := hw.2 c44_32
      by_cases c44_33 : (x1 &&& 63) = 33
      · replace hw := hw.1 c44_33
        refine lv_tableIn (tgt := 2398) (off := 2354) C.hx C.hb dL_law_44 (by rw [c44_33]; decide) (by rw [c44_33]; decide) (by rw [c44_33]; rfl) (by decide) ?_
        refine tk_aload_n C hl 1 dL_law_2398 rfl ?_
        refine tk_aload_n C hl 3 dL_law_2399 rfl ?_
        refine tw_cbi C hS (tw_runSW (As := [.inr l1, .inr l3]) C hR hS (wk_X0_scriptCost l C.hst G 2000 (by omega) _ _ _ _ σ hw) q1953 q1954 q63 q1955 pd_X0_scriptCost ⟨by omega, by omega⟩ hl.1 rfl (tw_r8 [] (Nat.le_of_ble_eq_true rfl)) dL_law_2400) (fun E q σ H locs hX hR hS hi => hX.elim) (fun x283 σ H locs hw hR hS => ?_)
        refine tk_istore (L' := [(6, .inl x283), (0, .inr (some b)), (1, .inr l1), (2, .inr l2), (3, .inr l3), (4, .inr l4), (5, .inl l5)]) C hl dL_law_2403 (by decide) rfl (fun ls hl => ?_)
        refine tk_aload_n C hl 3 dL_law_2405 rfl ?_
        obtain ⟨hv, hw⟩ := hw
        refine tw_cbi C hS (tk_runV (As := []) C hR hS (wk_X4_scriptCost l C.hst G 2000 (by omega) _ _ _ σ hw) hv rfl q2426 q2427 q2428 q74 q2429 pd_X4_scriptCost ⟨by omega, by omega⟩ hl.1 rfl (tw_r8 [] (Nat.le_of_ble_eq_true rfl)) dL_law_2406) (fun E q σ H locs hX hR hS hi => hX.elim) (fun x284 σ H locs hw hR hS => ?_)
        refine tk_istore (L' := [(7, .inl x284), (6, .inl x283), (0, .inr (some b)), (1, .inr l1), (2, .inr l2), (3, .inr l3), (4, .inr l4), (5, .inl l5)]) C hl dL_law_2409 (by decide) rfl (fun ls hl => ?_)
        refine tk_aload_n C hl 4 dL_law_2411 rfl ?_
        obtain ⟨hv, hw⟩ := hw
        refine tw_cbi C hS (tk_runV (As := []) C hR hS (wk_X4_thrown l C.hst G 2000 (by omega) _ _ _ σ hw) hv rfl q2147 q2148 q2149 q74 q2150 pd_X4_thrown ⟨by omega, by omega⟩ hl.1 rfl (tw_r8 [] (Nat.le_of_ble_eq_true rfl)) dL_law_2412) (fun E q σ H locs hX hR hS hi => hX.elim) (fun x285 σ H locs hw hR hS => ?_)
        refine tk_iload C hl 1 dL_law_2415 rfl ?_
        refine lv_icmp_eq (tgt := 2422) C.hx C.hb dL_law_2417 (by decide) (fun c2417 => ?_) (fun c2417 => ?_)
        · replace hw := hw.1 c2417
          refine tk_iload C hl 1 dL_law_2422 rfl ?_
          refine lv_if_ne (tgt := 2439) C.hx C.hb dL_law_2424 (by decide) (fun c2424 => ?_) (fun c2424 => ?_)
          · replace hw := hw.2 c2424
            exact wk_L_law_b2439 C hr hmn hnx hfr hRl hk28 _ _ _ _ _ σ _ _ _ hw hR hS (tk_sub hl [2, 3, 4, 5, 6, 7] rfl)
          · replace hw := hw.1 c2424
            refine tk_aload_n C hl 5 dL_law_2427 rfl ?_
            refine lv_iconst (v := 0) C.hx C.hb dL_law_2428 (by decide) ?_
            refine tk_ll C hR hw dL_law_2429 (fun x286 hw => ?_)
            refine tk_iload C hl 0 dL_law_2430 rfl ?_
            refine lv_i2l (v := x284.toInt64) C.hx C.hb dL_law_2432 rfl ?_
            refine tk_lcmp C dL_law_2433 ?_
            refine lv_if_eq (tgt := 2439) C.hx C.hb dL_law_2434 (by decide) (fun c2434 => ?_) (fun c2434 => ?_)
            · replace hw := hw.1 c2434
              exact wk_L_law_b2439 C hr hmn hnx hfr hRl hk28 _ _ _ _ _ σ _ _ _ hw hR hS (tk_sub hl [2, 3, 4, 5, 6, 7] rfl)
            · replace hw := hw.2 c2434
              refine lv_iconst (v := 0) C.hx C.hb dL_law_2437 (by decide) ?_
              exact tw_lret C hS hr hmn dL_law_2438 hw
        · replace hw := hw.2 c2417
          refine lv_iconst (v := 0) C.hx C.hb dL_law_2420 (by decide) ?_
          exact tw_lret C hS hr hmn dL_law_2421 hw
      replace hw := hw.2 c44_33
      by_cases c44_34 : (x1 &&& 63) = 34
      · replace hw := hw.1 c44_34
        refine lv_tableIn (tgt := 2442) (off := 2398) C.hx C.hb dL_law_44 (by rw [c44_34]; decide) (by rw [c44_34]; decide) (by rw [c44_34]; rfl) (by decide) ?_
        refine tk_aload_n C hl 1 dL_law_2442 rfl ?_
        refine tk_aload_n C hl 3 dL_law_2443 rfl ?_
        refine tw_cbi C hS (tw_runSW (As := [.inr l1, .inr l3]) C hR hS (wk_X0_givesTarget l C.hst G 2000 (by omega) _ _ _ _ σ hw) q1960 q1961 q63 q1962 pd_X0_givesTarget ⟨by omega, by omega⟩ hl.1 rfl (tw_r8 [] (Nat.le_of_ble_eq_true rfl)) dL_law_2444) (fun E q σ H locs hX hR hS hi => hX.elim) (fun x288 σ H locs hw hR hS => ?_)
        refine tk_istore (L' := [(6, .inl x288), (0, .inr (some b)), (1, .inr l1), (2, .inr l2), (3, .inr l3), (4, .inr l4), (5, .inl l5)]) C hl dL_law_2447 (by decide) rfl (fun ls hl => ?_)
        refine tk_aload_n C hl 3 dL_law_2449 rfl ?_
        obtain ⟨hv, hw⟩ := hw
        refine tw_cbi C hS (tk_runV (As := []) C hR hS (wk_X4_givesTarget l C.hst G 2000 (by omega) _ _ _ σ hw) hv rfl q2434 q2435 q2436 q74 q2437 pd_X4_givesTarget ⟨by omega, by omega⟩ hl.1 rfl (tw_r8 [] (Nat.le_of_ble_eq_true rfl)) dL_law_2450) (fun E q σ H locs hX hR hS hi => hX.elim) (fun x289 σ H locs hw hR hS => ?_)
        refine tk_istore (L' := [(7, .inl x289), (6, .inl x288), (0, .inr (some b)), (1, .inr l1), (2, .inr l2), (3, .inr l3), (4, .inr l4), (5, .inl l5)]) C hl dL_law_2453 (by decide) rfl (fun ls hl => ?_)
        refine tk_aload_n C hl 4 dL_law_2455 rfl ?_
        obtain ⟨hv, hw⟩ := hw
        refine tw_cbi C hS (tk_runV (As := []) C hR hS (wk_X4_thrown l C.hst G 2000 (by omega) _ _ _ σ hw) hv rfl q2147 q2148 q2149 q74 q2150 pd_X4_thrown ⟨by omega, by omega⟩ hl.1 rfl (tw_r8 [] (Nat.le_of_ble_eq_true rfl)) dL_law_2456) (fun E q σ H locs hX hR hS hi => hX.elim) (fun x290 σ H locs hw hR hS => ?_)
        refine tk_iload C hl 1 dL_law_2459 rfl ?_
        refine lv_icmp_eq (tgt := 2466) C.hx C.hb dL_law_2461 (by decide) (fun c2461 => ?_) (fun c2461 => ?_)
        · replace hw := hw.1 c2461
          refine tk_iload C hl 1 dL_law_2466 rfl ?_
          refine lv_if_ne (tgt := 2490) C.hx C.hb dL_law_2468 (by decide) (fun c2468 => ?_) (fun c2468 => ?_)
          · replace hw := hw.2 c2468
            exact wk_L_law_b2490 C hr hmn hnx hfr hRl hk28 _ _ _ _ _ σ _ _ _ hw hR hS (tk_sub hl [2, 3, 4, 5, 6, 7] rfl)
          · replace hw := hw.1 c2468
            refine tk_aload_n C hl 5 dL_law_2471 rfl ?_
            refine lv_iconst (v := 0) C.hx C.hb dL_law_2472 (by decide) ?_
            refine tk_ll C hR hw dL_law_2473 (fun x291 hw => ?_)
            refine tk_iload C hl 0 dL_law_2474 rfl ?_
            refine lv_if_eq (tgt := 2483) C.hx C.hb dL_law_2476 (by decide) (fun c2476 => ?_) (fun c2476 => ?_)
            · replace hw := hw.1 c2476
              refine lv_lconst (v := 0) C.hx C.hb dL_law_2483 (by decide) ?_
              exact wk_L_law_b2484 C hr hmn hnx hfr hRl hk28 _ _ _ _ _ _ _ σ _ _ _ hw hR hS (tk_sub hl [2, 3, 4, 5, 6, 7] rfl)
            · replace hw := hw.2 c2476
              refine lv_lconst (v := 1) C.hx C.hb dL_law_2479 (by decide) ?_
              refine lv_goto (tgt := 2484) C.hx C.hb dL_law_2480 (by decide) ?_
              exact wk_L_law_b2484 C hr hmn hnx hfr hRl hk28 _ _ _ _ _ _ _ σ _ _ _ hw hR hS (tk_sub hl [2, 3, 4, 5, 6, 7] rfl)
        · replace hw := hw.2 c2461
          refine lv_iconst (v := 0) C.hx C.hb dL_law_2464 (by decide) ?_
          exact tw_lret C hS hr hmn dL_law_2465 hw
      replace hw := hw.2 c44_34
      by_cases c44_35 : (x1 &&& 63) = 35
      · replace hw := hw.1 c44_35
        refine lv_tableIn (tgt := 2493) (off := 2449) C.hx C.hb dL_law_44 (by rw [c44_35]; decide) (by rw [c44_35]; decide) (by rw [c44_35]; rfl) (by decide) ?_
        refine tk_aload_n C hl 1 dL_law_2493 rfl ?_
        refine tk_aload_n C hl 0 dL_law_2494 rfl ?_
        refine tk_iload C hl 5 dL_law_2495 rfl ?_
        refine lv_iconst (v := 1) C.hx C.hb dL_law_2497 (by decide) ?_
        refine lv_iadd C.hx C.hb dL_law_2498 ?_
        refine tk_xl C hmn hS hw dL_law_2499 (fun x292 hw => ?_)
        refine tk_aload_n C hl 3 dL_law_2500 rfl ?_
        refine tw_cbi C hS (tw_runSW (As := [.inr l1, .inl x292, .inr l3]) C hR hS (wk_X0_patch l C.hst G 2000 (by omega) _ _ _ _ _ σ hw) q1967 q1968 q63 q1969 pd_X0_patch ⟨by omega, by omega⟩ hl.1 rfl (tw_r8 [] (Nat.le_of_ble_eq_true rfl)) dL_law_2501) (fun E q σ H locs hX hR hS hi => hX.elim) (fun x293 σ H locs hw hR hS => ?_)
        refine tk_istore (L' := [(6, .inl x293), (0, .inr (some b)), (1, .inr l1), (2, .inr l2), (3, .inr l3), (4, .inr l4), (5, .inl l5)]) C hl dL_law_2504 (by decide) rfl (fun ls hl => ?_)
        refine tk_aload_n C hl 3 dL_law_2506 rfl ?_
        refine tk_aload_n C hl 1 dL_law_2507 rfl ?_
        refine tk_iload C hl 6 dL_law_2508 rfl ?_
        refine lv_iconst (v := 1) C.hx C.hb dL_law_2510 (by decide) ?_
        refine lv_iadd C.hx C.hb dL_law_2511 ?_
        refine tk_xl C hmn hS hw dL_law_2512 (fun x294 hw => ?_)
        obtain ⟨hv, hw⟩ := hw
        refine tw_cbi C hS (tk_runV (As := [.inl x294]) C hR hS (wk_X4_patch l C.hst G 2000 (by omega) _ _ _ _ σ hw) hv rfl q2519 q2520 q2521 q74 q2522 pd_X4_patch ⟨by omega, by omega⟩ hl.1 rfl (tw_r8 [] (Nat.le_of_ble_eq_true rfl)) dL_law_2513) (fun E q σ H locs hX hR hS hi => hX.elim) (fun x295 σ H locs hw hR hS => ?_)
        refine tk_istore (L' := [(7, .inl x295), (6, .inl x293), (0, .inr (some b)), (1, .inr l1), (2, .inr l2), (3, .inr l3), (4, .inr l4), (5, .inl l5)]) C hl dL_law_2516 (by decide) rfl (fun ls hl => ?_)
        refine tk_aload_n C hl 4 dL_law_2518 rfl ?_
        obtain ⟨hv, hw⟩ := hw
        refine tw_cbi C hS (tk_runV (As := []) C hR hS (wk_X4_thrown l C.hst G 2000 (by omega) _ _ _ σ hw) hv rfl q2147 q2148 q2149 q74 q2150 pd_X4_thrown ⟨by omega, by omega⟩ hl.1 rfl (tw_r8 [] (Nat.le_of_ble_eq_true rfl)) dL_law_2519) (fun E q σ H locs hX hR hS hi => hX.elim) (fun x296 σ H locs hw hR hS => ?_)
        refine tk_iload C hl 1 dL_law_2522 rfl ?_
        refine lv_icmp_eq (tgt := 2529) C.hx C.hb dL_law_2524 (by decide) (fun c2524 => ?_) (fun c2524 => ?_)
        · replace hw := hw.1 c2524
          refine tk_iload C hl 1 dL_law_2529 rfl ?_
          refine lv_if_ne (tgt := 2546) C.hx C.hb dL_law_2531 (by decide) (fun c2531 => ?_) (fun c2531 => ?_)
          · replace hw := hw.2 c2531
            exact wk_L_law_b2546 C hr hmn hnx hfr hRl hk28 _ _ _ _ _ σ _ _ _ hw hR hS (tk_sub hl [2, 3, 4, 5, 6, 7] rfl)
          · replace hw := hw.1 c2531
            refine tk_aload_n C hl 5 dL_law_2534 rfl ?_
            refine lv_iconst (v := 0) C.hx C.hb dL_law_2535 (by decide) ?_
            refine tk_ll C hR hw dL_law_2536 (fun x297 hw => ?_)
            refine tk_iload C hl 0 dL_law_2537 rfl ?_
            refine lv_i2l (v := x295.toInt64) C.hx C.hb dL_law_2539 rfl ?_
            refine tk_lcmp C dL_law_2540 ?_
            refine lv_if_eq (tgt := 2546) C.hx C.hb dL_law_2541 (by decide) (fun c2541 => ?_) (fun c2541 => ?_)
            · replace hw := hw.1 c2541
              exact wk_L_law_b2546 C hr hmn hnx hfr hRl hk28 _ _ _ _ _ σ _ _ _ hw hR hS (tk_sub hl [2, 3, 4, 5, 6, 7] rfl)
            · replace hw := hw.2 c2541
              refine lv_iconst (v := 0) C.hx C.hb dL_law_2544 (by decide) ?_
              exact tw_lret C hS hr hmn dL_law_2545 hw
        · replace hw := hw.2 c2524
          refine lv_iconst (v := 0) C.hx C.hb dL_law_2527 (by decide) ?_
          exact tw_lret C hS hr hmn dL_law_2528 hw
      replace hw := hw.2 c44_35
      by_cases c44_36 : (x1 &&& 63) = 36
      · replace hw := hw.1 c44_36
        refine lv_tableIn (tgt := 2549) (off := 2505) C.hx C.hb dL_law_44 (by rw [c44_36]; decide) (by rw [c44_36]; decide) (by rw [c44_36]; rfl) (by decide) ?_
        refine tk_aload_n C hl 1 dL_law_2549 rfl ?_
        refine tk_aload_n C hl 3 dL_law_2550 rfl ?_
        refine tw_cbi C hS (tw_runSW (As := [.inr l1, .inr l3]) C hR hS (wk_X0_conflictOperation l C.hst G 2000 (by omega) _ _ _ _ σ hw) q1978 q1979 q63 q1980 pd_X0_conflictOperation ⟨by omega, by omega⟩ hl.1 rfl (tw_r8 [] (Nat.le_of_ble_eq_true rfl)) dL_law_2551) (fun E q σ H locs hX hR hS hi => hX.elim) (fun x299 σ H locs hw hR hS => ?_)
        refine tk_istore (L' := [(6, .inl x299), (0, .inr (some b)), (1, .inr l1), (2, .inr l2), (3, .inr l3), (4, .inr l4), (5, .inl l5)]) C hl dL_law_2554 (by decide) rfl (fun ls hl => ?_)
        refine tk_aload_n C hl 3 dL_law_2556 rfl ?_
        obtain ⟨hv, hw⟩ := hw
        refine tw_cbi C hS (tk_runV (As := []) C hR hS (wk_X4_conflictOperation l C.hst G 2000 (by omega) _ _ _ σ hw) hv rfl q2523 q2524 q2525 q74 q2526 pd_X4_conflictOperation ⟨by omega, by omega⟩ hl.1 rfl (tw_r8 [] (Nat.le_of_ble_eq_true rfl)) dL_law_2557) (fun E q σ H locs hX hR hS hi => hX.elim) (fun x300 σ H locs hw hR hS => ?_)
        refine tk_istore (L' := [(7, .inl x300), (6, .inl x299), (0, .inr (some b)), (1, .inr l1), (2, .inr l2), (3, .inr l3), (4, .inr l4), (5, .inl l5)]) C hl dL_law_2560 (by decide) rfl (fun ls hl => ?_)
        refine tk_aload_n C hl 4 dL_law_2562 rfl ?_
        obtain ⟨hv, hw⟩ := hw
        refine tw_cbi C hS (tk_runV (As := []) C hR hS (wk_X4_thrown l C.hst G 2000 (by omega) _ _ _ σ hw) hv rfl q2147 q2148 q2149 q74 q2150 pd_X4_thrown ⟨by omega, by omega⟩ hl.1 rfl (tw_r8 [] (Nat.le_of_ble_eq_true rfl)) dL_law_2563) (fun E q σ H locs hX hR hS hi => hX.elim) (fun x301 σ H locs hw hR hS => ?_)
        refine tk_iload C hl 1 dL_law_2566 rfl ?_
        refine lv_icmp_eq (tgt := 2573) C.hx C.hb dL_law_2568 (by decide) (fun c2568 => ?_) (fun c2568 => ?_)
        · replace hw := hw.1 c2568
          refine tk_iload C hl 1 dL_law_2573 rfl ?_
          refine lv_if_ne (tgt := 2590) C.hx C.hb dL_law_2575 (by decide) (fun c2575 => ?_) (fun c2575 => ?_)
          · replace hw := hw.2 c2575
            exact wk_L_law_b2590 C hr hmn hnx hfr hRl hk28 _ _ _ _ _ σ _ _ _ hw hR hS (tk_sub hl [2, 3, 4, 5, 6, 7] rfl)
          · replace hw := hw.1 c2575
            refine tk_aload_n C hl 5 dL_law_2578 rfl ?_
            refine lv_iconst (v := 0) C.hx C.hb dL_law_2579 (by decide) ?_
            refine tk_ll C hR hw dL_law_2580 (fun x302 hw => ?_)
            refine tk_iload C hl 0 dL_law_2581 rfl ?_
            refine lv_i2l (v := x300.toInt64) C.hx C.hb dL_law_2583 rfl ?_
            refine tk_lcmp C dL_law_2584 ?_
            refine lv_if_eq (tgt := 2590) C.hx C.hb dL_law_2585 (by decide) (fun c2585 => ?_) (fun c2585 => ?_)
            · replace hw := hw.1 c2585
              exact wk_L_law_b2590 C hr hmn hnx hfr hRl hk28 _ _ _ _ _ σ _ _ _ hw hR hS (tk_sub hl [2, 3, 4, 5, 6, 7] rfl)
            · replace hw := hw.2 c2585
              refine lv_iconst (v := 0) C.hx C.hb dL_law_2588 (by decide) ?_
              exact tw_lret C hS hr hmn dL_law_2589 hw
        · replace hw := hw.2 c2568
          refine lv_iconst (v := 0) C.hx C.hb dL_law_2571 (by decide) ?_
          exact tw_lret C hS hr hmn dL_law_2572 hw
      replace hw := hw.2 c44_36
      by_cases c44_37 : (x1 &&& 63) = 37
      · replace hw := hw.1 c44_37
        refine lv_tableIn (tgt := 2593) (off := 2549) C.hx C.hb dL_law_44 (by rw [c44_37]; decide) (by rw [c44_37]; decide) (by rw [c44_37]; rfl) (by decide) ?_
        refine tk_aload_n C hl 1 dL_law_2593 rfl ?_
        refine tk_aload_n C hl 3 dL_law_2594 rfl ?_
        refine tw_cbi C hS (tw_runSW (As := [.inr l1, .inr l3]) C hR hS (wk_X0_conflictReason l C.hst G 2000 (by omega) _ _ _ _ σ hw) q1985 q1986 q63 q1987 pd_X0_conflictReason ⟨by omega, by omega⟩ hl.1 rfl (tw_r8 [] (Nat.le_of_ble_eq_true rfl)) dL_law_2595) (fun E q σ H locs hX hR hS hi => hX.elim) (fun x304 σ H locs hw hR hS => ?_)
        refine tk_istore (L' := [(6, .inl x304), (0, .inr (some b)), (1, .inr l1), (2, .inr l2), (3, .inr l3), (4, .inr l4), (5, .inl l5)]) C hl dL_law_2598 (by decide) rfl (fun ls hl => ?_)
        refine tk_aload_n C hl 3 dL_law_2600 rfl ?_
        obtain ⟨hv, hw⟩ := hw
        refine tw_cbi C hS (tk_runV (As := []) C hR hS (wk_X4_conflictReason l C.hst G 2000 (by omega) _ _ _ σ hw) hv rfl q2527 q2528 q2529 q74 q2530 pd_X4_conflictReason ⟨by omega, by omega⟩ hl.1 rfl (tw_r8 [] (Nat.le_of_ble_eq_true rfl)) dL_law_2601) (fun E q σ H locs hX hR hS hi => hX.elim) (fun x305 σ H locs hw hR hS => ?_)
        refine tk_istore (L' := [(7, .inl x305), (6, .inl x304), (0, .inr (some b)), (1, .inr l1), (2, .inr l2), (3, .inr l3), (4, .inr l4), (5, .inl l5)]) C hl dL_law_2604 (by decide) rfl (fun ls hl => ?_)
        refine tk_aload_n C hl 4 dL_law_2606 rfl ?_
        obtain ⟨hv, hw⟩ := hw
        refine tw_cbi C hS (tk_runV (As := []) C hR hS (wk_X4_thrown l C.hst G 2000 (by omega) _ _ _ σ hw) hv rfl q2147 q2148 q2149 q74 q2150 pd_X4_thrown ⟨by omega, by omega⟩ hl.1 rfl (tw_r8 [] (Nat.le_of_ble_eq_true rfl)) dL_law_2607) (fun E q σ H locs hX hR hS hi => hX.elim) (fun x306 σ H locs hw hR hS => ?_)
        refine tk_iload C hl 1 dL_law_2610 rfl ?_
        refine lv_icmp_eq (tgt := 2617) C.hx C.hb dL_law_2612 (by decide) (fun c2612 => ?_) (fun c2612 => ?_)
        · replace hw := hw.1 c2612
          refine tk_iload C hl 1 dL_law_2617 rfl ?_
          refine lv_if_ne (tgt := 2634) C.hx C.hb dL_law_2619 (by decide) (fun c2619 => ?_) (fun c2619 => ?_)
          · replace hw := hw.2 c2619
            exact wk_L_law_b2634 C hr hmn hnx hfr hRl hk28 _ _ _ _ _ σ _ _ _ hw hR hS (tk_sub hl [2, 3, 4, 5, 6, 7] rfl)
          · replace hw := hw.1 c2619
            refine tk_aload_n C hl 5 dL_law_2622 rfl ?_
            refine lv_iconst (v := 0) C.hx C.hb dL_law_2623 (by decide) ?_
            refine tk_ll C hR hw dL_law_2624 (fun x307 hw => ?_)
            refine tk_iload C hl 0 dL_law_2625 rfl ?_
            refine lv_i2l (v := x305.toInt64) C.hx C.hb dL_law_2627 rfl ?_
            refine tk_lcmp C dL_law_2628 ?_
            refine lv_if_eq (tgt := 2634) C.hx C.hb dL_law_2629 (by decide) (fun c2629 => ?_) (fun c2629 => ?_)
            · replace hw := hw.1 c2629
              exact wk_L_law_b2634 C hr hmn hnx hfr hRl hk28 _ _ _ _ _ σ _ _ _ hw hR hS (tk_sub hl [2, 3, 4, 5, 6, 7] rfl)
            · replace hw := hw.2 c2629
              refine lv_iconst (v := 0) C.hx C.hb dL_law_2632 (by decide) ?_
              exact tw_lret C hS hr hmn dL_law_2633 hw
        · replace hw := hw.2 c2612
          refine lv_iconst (v := 0) C.hx C.hb dL_law_2615 (by decide) ?_
          exact tw_lret C hS hr hmn dL_law_2616 hw
      replace hw := hw.2 c44_37
      by_cases c44_38 : (x1 &&& 63) = 38
      · replace hw := hw.1 c44_38
        refine lv_tableIn (tgt := 2637) (off := 2593) C.hx C.hb dL_law_44 (by rw [c44_38]; decide) (by rw [c44_38]; decide) (by rw [c44_38]; rfl) (by decide) ?_
        refine tk_aload_n C hl 1 dL_law_2637 rfl ?_
        obtain ⟨hv, hw⟩ := hw
        refine tw_cbi C hS (tk_runV (As := []) C hR hS (wk_X1_isConsistent l C.hst G 2000 (by omega) _ _ _ σ hw) hv rfl q266 q267 q268 q64 q269 pd_X1_isConsistent ⟨by omega, by omega⟩ hl.1 rfl (tw_r8 [] (Nat.le_of_ble_eq_true rfl)) dL_law_2638) (fun E q σ H locs hX hR hS hi => hX.elim) (fun x309 σ H locs hw hR hS => ?_)
        refine tk_aload_n C hl 2 dL_law_2641 rfl ?_
        obtain ⟨hv, hw⟩ := hw
        refine tw_cbi C hS (tk_runV (As := []) C hR hS (wk_X4_isConsistent l C.hst G 2000 (by omega) _ _ _ σ hw) hv rfl q2531 q2532 q2533 q74 q2534 pd_X4_isConsistent ⟨by omega, by omega⟩ hl.1 rfl (tw_r8 [.inl x309] (Nat.le_of_ble_eq_true rfl)) dL_law_2642) (fun E q σ H locs hX hR hS hi => hX.elim) (fun x310 σ H locs hw hR hS => ?_)
        refine lv_icmp_eq (tgt := 2650) C.hx C.hb dL_law_2645 (by decide) (fun c2645 => ?_) (fun c2645 => ?_)
        · replace hw := hw.1 c2645
          exact wk_L_law_b2650 C hr hmn hnx hfr hRl hk28 _ _ _ _ _ σ _ _ _ hw hR hS (tk_sub hl [0, 1, 2, 3, 4, 5] rfl)
        · replace hw := hw.2 c2645
          refine lv_iconst (v := 0) C.hx C.hb dL_law_2648 (by decide) ?_
          exact tw_lret C hS hr hmn dL_law_2649 hw
      replace hw := hw.2 c44_38
      have n0 := lv_neT (a := 0) c44_0 rfl
      have n1 := lv_neT (a := 1) c44_1 rfl
      have n2 := lv_neT (a := 2) c44_2 rfl
      have n3 := lv_neT (a := 3) c44_3 rfl
      have n4 := lv_neT (a := 4) c44_4 rfl
      have n5 := lv_neT (a := 5) c44_5 rfl
      have n6 := lv_neT (a := 6) c44_6 rfl
      have n7 := lv_neT (a := 7) c44_7 rfl
      have n8 := lv_neT (a := 8) c44_8 rfl
      have n9 := lv_neT (a := 9) c44_9 rfl
      have n10 := lv_neT (a := 10) c44_10 rfl
      have n11 := lv_neT (a := 11) c44_11 rfl
      have n12 := lv_neT (a := 12) c44_12 rfl
      have n13 := lv_neT (a := 13) c44_13 rfl
      have n14 := lv_neT (a := 14) c44_14 rfl
      have n15 := lv_neT (a := 15) c44_15 rfl
      have n16 := lv_neT (a := 16) c44_16 rfl
      have n17 := lv_neT (a := 17) c44_17 rfl
      have n18 := lv_neT (a := 18) c44_18 rfl
      have n19 := lv_neT (a := 19) c44_19 rfl
      have n20 := lv_neT (a := 20) c44_20 rfl
      have n21 := lv_neT (a := 21) c44_21 rfl
      have n22 := lv_neT (a := 22) c44_22 rfl
      have n23 := lv_neT (a := 23) c44_23 rfl
      have n24 := lv_neT (a := 24) c44_24 rfl
      have n25 := lv_neT (a := 25) c44_25 rfl
      have n26 := lv_neT (a := 26) c44_26 rfl
      have n27 := lv_neT (a := 27) c44_27 rfl
      have n28 := lv_neT (a := 28) c44_28 rfl
      have n29 := lv_neT (a := 29) c44_29 rfl
      have n30 := lv_neT (a := 30) c44_30 rfl
      have n31 := lv_neT (a := 31) c44_31 rfl
      have n32 := lv_neT (a := 32) c44_32 rfl
      have n33 := lv_neT (a := 33) c44_33 rfl
      have n34 := lv_neT (a := 34) c44_34 rfl
      have n35 := lv_neT (a := 35) c44_35 rfl
      have n36 := lv_neT (a := 36) c44_36 rfl
      have n37 := lv_neT (a := 37) c44_37 rfl
      have n38 := lv_neT (a := 38) c44_38 rfl
      refine lv_tableOut (tgt := 2650) C.hx C.hb dL_law_44 (by omega) (by decide) ?_
      exact wk_L_law_b2650 C hr hmn hnx hfr hRl hk28 _ _ _ _ _ σ _ _ _ hw hR hS (tk_sub hl [0, 1, 2, 3, 4, 5] rfl)
set_option maxHeartbeats 4000000 in
theorem wk_L_law_b0  (C : tw_C p l room_1 s m #[Value.ref b] meth c G cL_law 9 x.cls) (hr : meth.sig.returnType = (some .boolean)) (hmn : lw_sc G b L xs s) (hnx : True) (hfr : room_1.frames = 8192) (hRl : room_1.locals = 104096) {Q : Int32 → Tst → Prop} {X : String → Nat → Tst → Prop}   (σ : Tst) (H : Heap) (locs : List Loc) (ls : Array Slot) (hw : w_L_law_b0 b L xs Q X  σ) (hR : tw_R G σ H) (hS : va_S (tw_A G) s.heap H locs) (hl : tw_l ls 9 [(0, .inr (some b))]) : tw_W p l e room_1 s m #[Value.ref b] below meth c σ H locs (lw_Z below #[Value.ref b] s) (F0 m 0 ls []) := by
  unfold w_L_law_b0 at hw
  refine tk_nw C hR hS hw rfl in_X1 tyX1 tyX1_ok q113 q114 q64 (fun j hj => by rcases (show j = 0 ∨ j = 1 ∨ j = 2 ∨ j = 3 ∨ j = 4 ∨ j = 5 by omega) with rfl | rfl | rfl | rfl | rfl | rfl <;> rfl) dL_law_0 (fun q1 σ H hw hR hS => ?_)
  refine tw_dup (x := .inr q1) C.hx C.hb dL_law_3 ?_
  obtain ⟨hv, hw⟩ := hw
  refine tw_cbv C hS (tk_runI (As := []) hv C hR hS (wk_X1_init l C.hst G 2000 (by omega) _ _ _ σ hw) q115 q116 q64 q117 rfl pd_X1_init ⟨by omega, by omega⟩ hl.1 rfl (tw_r8 [.inr q1] (Nat.le_of_ble_eq_true rfl)) dL_law_4) (fun E q σ H locs hX hR hS hi => hX.elim) (fun σ H locs hw hR hS => ?_)
  refine tk_astore_n (L' := [(1, .inr q1), (0, .inr (some b))]) C hl dL_law_7 (by decide) rfl (fun ls hl => ?_)
  refine tk_nw C hR hS hw rfl in_X4 tyX4 tyX4_ok q2005 q2006 q74 (fun j hj => by rcases (show j = 0 ∨ j = 1 ∨ j = 2 ∨ j = 3 ∨ j = 4 ∨ j = 5 ∨ j = 6 ∨ j = 7 ∨ j = 8 ∨ j = 9 ∨ j = 10 ∨ j = 11 ∨ j = 12 ∨ j = 13 ∨ j = 14 ∨ j = 15 ∨ j = 16 ∨ j = 17 ∨ j = 18 ∨ j = 19 ∨ j = 20 ∨ j = 21 ∨ j = 22 ∨ j = 23 ∨ j = 24 ∨ j = 25 ∨ j = 26 ∨ j = 27 ∨ j = 28 ∨ j = 29 ∨ j = 30 by omega) with rfl | rfl | rfl | rfl | rfl | rfl | rfl | rfl | rfl | rfl | rfl | rfl | rfl | rfl | rfl | rfl | rfl | rfl | rfl | rfl | rfl | rfl | rfl | rfl | rfl | rfl | rfl | rfl | rfl | rfl | rfl <;> rfl) dL_law_8 (fun q3 σ H hw hR hS => ?_)
  refine tw_dup (x := .inr q3) C.hx C.hb dL_law_11 ?_
  obtain ⟨hv, hw⟩ := hw
  refine tw_cbv C hS (tk_runI (As := []) hv C hR hS (wk_X4_init l C.hst G 2000 (by omega) _ _ _ σ hw) q2007 q2008 q74 q2009 rfl pd_X4_init ⟨by omega, by omega⟩ hl.1 rfl (tw_r8 [.inr q3] (Nat.le_of_ble_eq_true rfl)) dL_law_12) (fun E q σ H locs hX hR hS hi => hX.elim) (fun σ H locs hw hR hS => ?_)
  refine tk_astore_n (L' := [(2, .inr q3), (1, .inr q1), (0, .inr (some b))]) C hl dL_law_15 (by decide) rfl (fun ls hl => ?_)
  refine lv_iconst (v := 1) C.hx C.hb dL_law_16 (by decide) ?_
  refine tk_na (t := 3) (atype := .long) C hR hS hw q2535 rfl (fun h => h) (fun _ _ => rfl) (by decide) dL_law_17 (fun q5 σ H hw hR hS => ?_)
  refine tk_astore_n (L' := [(3, .inr q5), (2, .inr q3), (1, .inr q1), (0, .inr (some b))]) C hl dL_law_19 (by decide) rfl (fun ls hl => ?_)
  refine lv_iconst (v := 1) C.hx C.hb dL_law_20 (by decide) ?_
  refine tk_na (t := 4) (atype := .double) C hR hS hw q2536 rfl (fun h => h) (fun _ _ => rfl) (by decide) dL_law_21 (fun q6 σ H hw hR hS => ?_)
  refine tk_astore (L' := [(4, .inr q6), (3, .inr q5), (2, .inr q3), (1, .inr q1), (0, .inr (some b))]) C hl dL_law_23 (by decide) rfl (fun ls hl => ?_)
  refine lv_iconst (v := 0) C.hx C.hb dL_law_25 (by decide) ?_
  refine tk_istore (L' := [(5, .inl 0), (4, .inr q6), (3, .inr q5), (2, .inr q3), (1, .inr q1), (0, .inr (some b))]) C hl dL_law_26 (by decide) rfl (fun ls hl => ?_)
  obtain ⟨z, hw⟩ := hw
  exact wk_L_law_b28 C hr hmn hnx hfr hRl z _ _ _ _ _ σ _ _ _ hw hR hS (tk_sub hl [5, 4, 3, 2, 1, 0] rfl)
end GWL
