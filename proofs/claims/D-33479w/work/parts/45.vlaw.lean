/-! the law (printed by gen2.py) -/
set_option maxRecDepth 100000
def T_L_law_23 (l : Launch) (G : aG) (d mc ms : Nat) (P : aR → aH → Prop) (x1 : Nat) (x2 : Nat) (x3 : Nat) (x4 : Int32) (h : aH) (c s : Nat) : Prop := c ≤ mc → s ≤ ms → AW l G mL_law d mc ms P 23 [(0, .ref G.2.2.1), (1, .ref x1), (2, .ref x2), (3, .ref x3), (4, .int x4)] [] h c s
def T_L_law_244 (l : Launch) (G : aG) (d mc ms : Nat) (P : aR → aH → Prop) (x1 : Nat) (x2 : Nat) (x3 : Nat) (x4 : Int32) (h : aH) (c s : Nat) : Prop := c ≤ mc → s ≤ ms → AW l G mL_law d mc ms P 244 [(0, .ref G.2.2.1), (1, .ref x1), (2, .ref x2), (3, .ref x3), (4, .int x4)] [] h c s
def T_L_law_312 (l : Launch) (G : aG) (d mc ms : Nat) (P : aR → aH → Prop) (x1 : Nat) (x2 : Nat) (x3 : Nat) (x4 : Int32) (h : aH) (c s : Nat) : Prop := c ≤ mc → s ≤ ms → AW l G mL_law d mc ms P 312 [(0, .ref G.2.2.1), (1, .ref x1), (2, .ref x2), (3, .ref x3), (4, .int x4)] [] h c s
def T_L_law_325 (l : Launch) (G : aG) (d mc ms : Nat) (P : aR → aH → Prop) (x1 : Nat) (x2 : Nat) (x3 : Nat) (x4 : Int32) (h : aH) (c s : Nat) : Prop := c ≤ mc → s ≤ ms → AW l G mL_law d mc ms P 325 [(0, .ref G.2.2.1), (1, .ref x1), (2, .ref x2), (3, .ref x3), (4, .int x4)] [] h c s
def T_L_law_421 (l : Launch) (G : aG) (d mc ms : Nat) (P : aR → aH → Prop) (x1 : Nat) (x2 : Nat) (x3 : Nat) (x4 : Int32) (h : aH) (c s : Nat) : Prop := c ≤ mc → s ≤ ms → AW l G mL_law d mc ms P 421 [(0, .ref G.2.2.1), (1, .ref x1), (2, .ref x2), (3, .ref x3), (4, .int x4)] [] h c s
def T_L_law_477 (l : Launch) (G : aG) (d mc ms : Nat) (P : aR → aH → Prop) (x1 : Nat) (x2 : Nat) (x3 : Nat) (x4 : Int32) (h : aH) (c s : Nat) : Prop := c ≤ mc → s ≤ ms → AW l G mL_law d mc ms P 477 [(0, .ref G.2.2.1), (1, .ref x1), (2, .ref x2), (3, .ref x3), (4, .int x4)] [] h c s
def T_L_law_490 (l : Launch) (G : aG) (d mc ms : Nat) (P : aR → aH → Prop) (x1 : Nat) (x2 : Nat) (x3 : Nat) (x4 : Int32) (h : aH) (c s : Nat) : Prop := c ≤ mc → s ≤ ms → AW l G mL_law d mc ms P 490 [(0, .ref G.2.2.1), (1, .ref x1), (2, .ref x2), (3, .ref x3), (4, .int x4)] [] h c s
def T_L_law_558 (l : Launch) (G : aG) (d mc ms : Nat) (P : aR → aH → Prop) (x1 : Nat) (x2 : Nat) (x3 : Nat) (x4 : Int32) (h : aH) (c s : Nat) : Prop := c ≤ mc → s ≤ ms → AW l G mL_law d mc ms P 558 [(0, .ref G.2.2.1), (1, .ref x1), (2, .ref x2), (3, .ref x3), (4, .int x4)] [] h c s
def T_L_law_571 (l : Launch) (G : aG) (d mc ms : Nat) (P : aR → aH → Prop) (x1 : Nat) (x2 : Nat) (x3 : Nat) (x4 : Int32) (h : aH) (c s : Nat) : Prop := c ≤ mc → s ≤ ms → AW l G mL_law d mc ms P 571 [(0, .ref G.2.2.1), (1, .ref x1), (2, .ref x2), (3, .ref x3), (4, .int x4)] [] h c s
def T_L_law_584 (l : Launch) (G : aG) (d mc ms : Nat) (P : aR → aH → Prop) (x1 : Nat) (x2 : Nat) (x3 : Nat) (x4 : Int32) (h : aH) (c s : Nat) : Prop := c ≤ mc → s ≤ ms → AW l G mL_law d mc ms P 584 [(0, .ref G.2.2.1), (1, .ref x1), (2, .ref x2), (3, .ref x3), (4, .int x4)] [] h c s
def T_L_law_597 (l : Launch) (G : aG) (d mc ms : Nat) (P : aR → aH → Prop) (x1 : Nat) (x2 : Nat) (x3 : Nat) (x4 : Int32) (h : aH) (c s : Nat) : Prop := c ≤ mc → s ≤ ms → AW l G mL_law d mc ms P 597 [(0, .ref G.2.2.1), (1, .ref x1), (2, .ref x2), (3, .ref x3), (4, .int x4)] [] h c s
def T_L_law_610 (l : Launch) (G : aG) (d mc ms : Nat) (P : aR → aH → Prop) (x1 : Nat) (x2 : Nat) (x3 : Nat) (x4 : Int32) (h : aH) (c s : Nat) : Prop := c ≤ mc → s ≤ ms → AW l G mL_law d mc ms P 610 [(0, .ref G.2.2.1), (1, .ref x1), (2, .ref x2), (3, .ref x3), (4, .int x4)] [] h c s
def T_L_law_623 (l : Launch) (G : aG) (d mc ms : Nat) (P : aR → aH → Prop) (x1 : Nat) (x2 : Nat) (x3 : Nat) (x4 : Int32) (h : aH) (c s : Nat) : Prop := c ≤ mc → s ≤ ms → AW l G mL_law d mc ms P 623 [(0, .ref G.2.2.1), (1, .ref x1), (2, .ref x2), (3, .ref x3), (4, .int x4)] [] h c s
def T_L_law_679 (l : Launch) (G : aG) (d mc ms : Nat) (P : aR → aH → Prop) (x1 : Nat) (x2 : Nat) (x3 : Nat) (x4 : Int32) (h : aH) (c s : Nat) : Prop := c ≤ mc → s ≤ ms → AW l G mL_law d mc ms P 679 [(0, .ref G.2.2.1), (1, .ref x1), (2, .ref x2), (3, .ref x3), (4, .int x4)] [] h c s
def T_L_law_742 (l : Launch) (G : aG) (d mc ms : Nat) (P : aR → aH → Prop) (x1 : Nat) (x2 : Nat) (x3 : Nat) (x4 : Int32) (h : aH) (c s : Nat) : Prop := c ≤ mc → s ≤ ms → AW l G mL_law d mc ms P 742 [(0, .ref G.2.2.1), (1, .ref x1), (2, .ref x2), (3, .ref x3), (4, .int x4)] [] h c s
def T_L_law_810 (l : Launch) (G : aG) (d mc ms : Nat) (P : aR → aH → Prop) (x1 : Nat) (x2 : Nat) (x3 : Nat) (x4 : Int32) (h : aH) (c s : Nat) : Prop := c ≤ mc → s ≤ ms → AW l G mL_law d mc ms P 810 [(0, .ref G.2.2.1), (1, .ref x1), (2, .ref x2), (3, .ref x3), (4, .int x4)] [] h c s
def T_L_law_878 (l : Launch) (G : aG) (d mc ms : Nat) (P : aR → aH → Prop) (x1 : Nat) (x2 : Nat) (x3 : Nat) (x4 : Int32) (h : aH) (c s : Nat) : Prop := c ≤ mc → s ≤ ms → AW l G mL_law d mc ms P 878 [(0, .ref G.2.2.1), (1, .ref x1), (2, .ref x2), (3, .ref x3), (4, .int x4)] [] h c s
def T_L_law_946 (l : Launch) (G : aG) (d mc ms : Nat) (P : aR → aH → Prop) (x1 : Nat) (x2 : Nat) (x3 : Nat) (x4 : Int32) (h : aH) (c s : Nat) : Prop := c ≤ mc → s ≤ ms → AW l G mL_law d mc ms P 946 [(0, .ref G.2.2.1), (1, .ref x1), (2, .ref x2), (3, .ref x3), (4, .int x4)] [] h c s
def T_L_law_959 (l : Launch) (G : aG) (d mc ms : Nat) (P : aR → aH → Prop) (x1 : Nat) (x2 : Nat) (x3 : Nat) (x4 : Int32) (h : aH) (c s : Nat) : Prop := c ≤ mc → s ≤ ms → AW l G mL_law d mc ms P 959 [(0, .ref G.2.2.1), (1, .ref x1), (2, .ref x2), (3, .ref x3), (4, .int x4)] [] h c s
def T_L_law_1015 (l : Launch) (G : aG) (d mc ms : Nat) (P : aR → aH → Prop) (x1 : Nat) (x2 : Nat) (x3 : Nat) (x4 : Int32) (h : aH) (c s : Nat) : Prop := c ≤ mc → s ≤ ms → AW l G mL_law d mc ms P 1015 [(0, .ref G.2.2.1), (1, .ref x1), (2, .ref x2), (3, .ref x3), (4, .int x4)] [] h c s
def T_L_law_1070 (l : Launch) (G : aG) (d mc ms : Nat) (P : aR → aH → Prop) (x1 : Nat) (x2 : Nat) (x3 : Nat) (x4 : Int32) (h : aH) (c s : Nat) : Prop := c ≤ mc → s ≤ ms → AW l G mL_law d mc ms P 1070 [(0, .ref G.2.2.1), (1, .ref x1), (2, .ref x2), (3, .ref x3), (4, .int x4)] [] h c s
def T_L_law_1084 (l : Launch) (G : aG) (d mc ms : Nat) (P : aR → aH → Prop) (x1 : Nat) (x2 : Nat) (x3 : Nat) (x4 : Int32) (h : aH) (c s : Nat) : Prop := c ≤ mc → s ≤ ms → AW l G mL_law d mc ms P 1084 [(0, .ref G.2.2.1), (1, .ref x1), (2, .ref x2), (3, .ref x3), (4, .int x4)] [] h c s
def T_L_law_1097 (l : Launch) (G : aG) (d mc ms : Nat) (P : aR → aH → Prop) (x1 : Nat) (x2 : Nat) (x3 : Nat) (x4 : Int32) (h : aH) (c s : Nat) : Prop := c ≤ mc → s ≤ ms → AW l G mL_law d mc ms P 1097 [(0, .ref G.2.2.1), (1, .ref x1), (2, .ref x2), (3, .ref x3), (4, .int x4)] [] h c s
def T_L_law_1110 (l : Launch) (G : aG) (d mc ms : Nat) (P : aR → aH → Prop) (x1 : Nat) (x2 : Nat) (x3 : Nat) (x4 : Int32) (h : aH) (c s : Nat) : Prop := c ≤ mc → s ≤ ms → AW l G mL_law d mc ms P 1110 [(0, .ref G.2.2.1), (1, .ref x1), (2, .ref x2), (3, .ref x3), (4, .int x4)] [] h c s
def T_L_law_1166 (l : Launch) (G : aG) (d mc ms : Nat) (P : aR → aH → Prop) (x1 : Nat) (x2 : Nat) (x3 : Nat) (x4 : Int32) (h : aH) (c s : Nat) : Prop := c ≤ mc → s ≤ ms → AW l G mL_law d mc ms P 1166 [(0, .ref G.2.2.1), (1, .ref x1), (2, .ref x2), (3, .ref x3), (4, .int x4)] [] h c s
def T_L_law_1222 (l : Launch) (G : aG) (d mc ms : Nat) (P : aR → aH → Prop) (x1 : Nat) (x2 : Nat) (x3 : Nat) (x4 : Int32) (h : aH) (c s : Nat) : Prop := c ≤ mc → s ≤ ms → AW l G mL_law d mc ms P 1222 [(0, .ref G.2.2.1), (1, .ref x1), (2, .ref x2), (3, .ref x3), (4, .int x4)] [] h c s
def T_L_law_1290 (l : Launch) (G : aG) (d mc ms : Nat) (P : aR → aH → Prop) (x1 : Nat) (x2 : Nat) (x3 : Nat) (x4 : Int32) (h : aH) (c s : Nat) : Prop := c ≤ mc → s ≤ ms → AW l G mL_law d mc ms P 1290 [(0, .ref G.2.2.1), (1, .ref x1), (2, .ref x2), (3, .ref x3), (4, .int x4)] [] h c s
def T_L_law_1303 (l : Launch) (G : aG) (d mc ms : Nat) (P : aR → aH → Prop) (x1 : Nat) (x2 : Nat) (x3 : Nat) (x4 : Int32) (h : aH) (c s : Nat) : Prop := c ≤ mc → s ≤ ms → AW l G mL_law d mc ms P 1303 [(0, .ref G.2.2.1), (1, .ref x1), (2, .ref x2), (3, .ref x3), (4, .int x4)] [] h c s
def T_L_law_1371 (l : Launch) (G : aG) (d mc ms : Nat) (P : aR → aH → Prop) (x1 : Nat) (x2 : Nat) (x3 : Nat) (x4 : Int32) (h : aH) (c s : Nat) : Prop := c ≤ mc → s ≤ ms → AW l G mL_law d mc ms P 1371 [(0, .ref G.2.2.1), (1, .ref x1), (2, .ref x2), (3, .ref x3), (4, .int x4)] [] h c s
def T_L_law_1439 (l : Launch) (G : aG) (d mc ms : Nat) (P : aR → aH → Prop) (x1 : Nat) (x2 : Nat) (x3 : Nat) (x4 : Int32) (h : aH) (c s : Nat) : Prop := c ≤ mc → s ≤ ms → AW l G mL_law d mc ms P 1439 [(0, .ref G.2.2.1), (1, .ref x1), (2, .ref x2), (3, .ref x3), (4, .int x4)] [] h c s
def T_L_law_1452 (l : Launch) (G : aG) (d mc ms : Nat) (P : aR → aH → Prop) (x1 : Nat) (x2 : Nat) (x3 : Nat) (x4 : Int32) (h : aH) (c s : Nat) : Prop := c ≤ mc → s ≤ ms → AW l G mL_law d mc ms P 1452 [(0, .ref G.2.2.1), (1, .ref x1), (2, .ref x2), (3, .ref x3), (4, .int x4)] [] h c s
def T_L_law_1496 (l : Launch) (G : aG) (d mc ms : Nat) (P : aR → aH → Prop) (x1 : Nat) (x2 : Nat) (x3 : Nat) (x4 : Int32) (h : aH) (c s : Nat) : Prop := c ≤ mc → s ≤ ms → AW l G mL_law d mc ms P 1496 [(0, .ref G.2.2.1), (1, .ref x1), (2, .ref x2), (3, .ref x3), (4, .int x4)] [] h c s
def T_L_law_1552 (l : Launch) (G : aG) (d mc ms : Nat) (P : aR → aH → Prop) (x1 : Nat) (x2 : Nat) (x3 : Nat) (x4 : Int32) (h : aH) (c s : Nat) : Prop := c ≤ mc → s ≤ ms → AW l G mL_law d mc ms P 1552 [(0, .ref G.2.2.1), (1, .ref x1), (2, .ref x2), (3, .ref x3), (4, .int x4)] [] h c s
def T_L_law_1608 (l : Launch) (G : aG) (d mc ms : Nat) (P : aR → aH → Prop) (x1 : Nat) (x2 : Nat) (x3 : Nat) (x4 : Int32) (h : aH) (c s : Nat) : Prop := c ≤ mc → s ≤ ms → AW l G mL_law d mc ms P 1608 [(0, .ref G.2.2.1), (1, .ref x1), (2, .ref x2), (3, .ref x3), (4, .int x4)] [] h c s
def T_L_law_1621 (l : Launch) (G : aG) (d mc ms : Nat) (P : aR → aH → Prop) (x1 : Nat) (x2 : Nat) (x3 : Nat) (x4 : Int32) (h : aH) (c s : Nat) : Prop := c ≤ mc → s ≤ ms → AW l G mL_law d mc ms P 1621 [(0, .ref G.2.2.1), (1, .ref x1), (2, .ref x2), (3, .ref x3), (4, .int x4)] [] h c s
def T_L_law_1634 (l : Launch) (G : aG) (d mc ms : Nat) (P : aR → aH → Prop) (x1 : Nat) (x2 : Nat) (x3 : Nat) (x4 : Int32) (h : aH) (c s : Nat) : Prop := c ≤ mc → s ≤ ms → AW l G mL_law d mc ms P 1634 [(0, .ref G.2.2.1), (1, .ref x1), (2, .ref x2), (3, .ref x3), (4, .int x4)] [] h c s
def T_L_law_1647 (l : Launch) (G : aG) (d mc ms : Nat) (P : aR → aH → Prop) (x1 : Nat) (x2 : Nat) (x3 : Nat) (x4 : Int32) (h : aH) (c s : Nat) : Prop := c ≤ mc → s ≤ ms → AW l G mL_law d mc ms P 1647 [(0, .ref G.2.2.1), (1, .ref x1), (2, .ref x2), (3, .ref x3), (4, .int x4)] [] h c s
def T_L_law_1703 (l : Launch) (G : aG) (d mc ms : Nat) (P : aR → aH → Prop) (x1 : Nat) (x2 : Nat) (x3 : Nat) (x4 : Int32) (h : aH) (c s : Nat) : Prop := c ≤ mc → s ≤ ms → AW l G mL_law d mc ms P 1703 [(0, .ref G.2.2.1), (1, .ref x1), (2, .ref x2), (3, .ref x3), (4, .int x4)] [] h c s
def T_L_law_1717 (l : Launch) (G : aG) (d mc ms : Nat) (P : aR → aH → Prop) (x1 : Nat) (x2 : Nat) (x3 : Nat) (x4 : Int32) (h : aH) (c s : Nat) : Prop := c ≤ mc → s ≤ ms → AW l G mL_law d mc ms P 1717 [(0, .ref G.2.2.1), (1, .ref x1), (2, .ref x2), (3, .ref x3), (4, .int x4)] [] h c s
def T_L_law_1780 (l : Launch) (G : aG) (d mc ms : Nat) (P : aR → aH → Prop) (x1 : Nat) (x2 : Nat) (x3 : Nat) (x4 : Int32) (h : aH) (c s : Nat) : Prop := c ≤ mc → s ≤ ms → AW l G mL_law d mc ms P 1780 [(0, .ref G.2.2.1), (1, .ref x1), (2, .ref x2), (3, .ref x3), (4, .int x4)] [] h c s
def T_L_law_1821 (l : Launch) (G : aG) (d mc ms : Nat) (P : aR → aH → Prop) (x1 : Nat) (x2 : Nat) (x3 : Nat) (x4 : Int32) (h : aH) (c s : Nat) : Prop := c ≤ mc → s ≤ ms → AW l G mL_law d mc ms P 1821 [(0, .ref G.2.2.1), (1, .ref x1), (2, .ref x2), (3, .ref x3), (4, .int x4)] [] h c s
def T_L_law_1909 (l : Launch) (G : aG) (d mc ms : Nat) (P : aR → aH → Prop) (x1 : Nat) (x2 : Nat) (x3 : Nat) (x4 : Int32) (h : aH) (c s : Nat) : Prop := c ≤ mc → s ≤ ms → AW l G mL_law d mc ms P 1909 [(0, .ref G.2.2.1), (1, .ref x1), (2, .ref x2), (3, .ref x3), (4, .int x4)] [] h c s
def T_L_law_1922 (l : Launch) (G : aG) (d mc ms : Nat) (P : aR → aH → Prop) (x1 : Nat) (x2 : Nat) (x3 : Nat) (x4 : Int32) (h : aH) (c s : Nat) : Prop := c ≤ mc → s ≤ ms → AW l G mL_law d mc ms P 1922 [(0, .ref G.2.2.1), (1, .ref x1), (2, .ref x2), (3, .ref x3), (4, .int x4)] [] h c s
def T_L_law_1935 (l : Launch) (G : aG) (d mc ms : Nat) (P : aR → aH → Prop) (x1 : Nat) (x2 : Nat) (x3 : Nat) (x4 : Int32) (h : aH) (c s : Nat) : Prop := c ≤ mc → s ≤ ms → AW l G mL_law d mc ms P 1935 [(0, .ref G.2.2.1), (1, .ref x1), (2, .ref x2), (3, .ref x3), (4, .int x4)] [] h c s
def T_L_law_1948 (l : Launch) (G : aG) (d mc ms : Nat) (P : aR → aH → Prop) (x1 : Nat) (x2 : Nat) (x3 : Nat) (x4 : Int32) (h : aH) (c s : Nat) : Prop := c ≤ mc → s ≤ ms → AW l G mL_law d mc ms P 1948 [(0, .ref G.2.2.1), (1, .ref x1), (2, .ref x2), (3, .ref x3), (4, .int x4)] [] h c s
def T_L_law_1992 (l : Launch) (G : aG) (d mc ms : Nat) (P : aR → aH → Prop) (x1 : Nat) (x2 : Nat) (x3 : Nat) (x4 : Int32) (h : aH) (c s : Nat) : Prop := c ≤ mc → s ≤ ms → AW l G mL_law d mc ms P 1992 [(0, .ref G.2.2.1), (1, .ref x1), (2, .ref x2), (3, .ref x3), (4, .int x4)] [] h c s
def T_L_law_2036 (l : Launch) (G : aG) (d mc ms : Nat) (P : aR → aH → Prop) (x1 : Nat) (x2 : Nat) (x3 : Nat) (x4 : Int32) (h : aH) (c s : Nat) : Prop := c ≤ mc → s ≤ ms → AW l G mL_law d mc ms P 2036 [(0, .ref G.2.2.1), (1, .ref x1), (2, .ref x2), (3, .ref x3), (4, .int x4)] [] h c s
def T_L_law_2049 (l : Launch) (G : aG) (d mc ms : Nat) (P : aR → aH → Prop) (x1 : Nat) (x2 : Nat) (x3 : Nat) (x4 : Int32) (h : aH) (c s : Nat) : Prop := c ≤ mc → s ≤ ms → AW l G mL_law d mc ms P 2049 [(0, .ref G.2.2.1), (1, .ref x1), (2, .ref x2), (3, .ref x3), (4, .int x4)] [] h c s
def T_L_law_2105 (l : Launch) (G : aG) (d mc ms : Nat) (P : aR → aH → Prop) (x1 : Nat) (x2 : Nat) (x3 : Nat) (x4 : Int32) (h : aH) (c s : Nat) : Prop := c ≤ mc → s ≤ ms → AW l G mL_law d mc ms P 2105 [(0, .ref G.2.2.1), (1, .ref x1), (2, .ref x2), (3, .ref x3), (4, .int x4)] [] h c s
def T_L_law_2161 (l : Launch) (G : aG) (d mc ms : Nat) (P : aR → aH → Prop) (x1 : Nat) (x2 : Nat) (x3 : Nat) (x4 : Int32) (h : aH) (c s : Nat) : Prop := c ≤ mc → s ≤ ms → AW l G mL_law d mc ms P 2161 [(0, .ref G.2.2.1), (1, .ref x1), (2, .ref x2), (3, .ref x3), (4, .int x4)] [] h c s
def V_L_law_23 (l : Launch) (G : aG) (d mc ms : Nat) (P : aR → aH → Prop) (x1 : Nat) (x2 : Nat) (x3 : Nat) (x4 : Int32) (h : aH) (c s : Nat) : Prop :=
  (((Int32.ofNat G.2.2.2.1) - (4 : Int32)) < x4 → 
    P (.inl (some (.int 1))) h
    ) ∧ (¬ ((Int32.ofNat G.2.2.2.1) - (4 : Int32)) < x4 → 
    vp_in x4 G.2.2.2.1 ∧
    (((G.2.2.2.2 x4.toNatClampNeg) &&& (63 : Int32)) = 0 → 
      T_L_law_244 l G d mc ms P x1 x2 x3 x4 h c s
    ) ∧ (((G.2.2.2.2 x4.toNatClampNeg) &&& (63 : Int32)) = 1 → 
      T_L_law_312 l G d mc ms P x1 x2 x3 x4 h c s
    ) ∧ (((G.2.2.2.2 x4.toNatClampNeg) &&& (63 : Int32)) = 2 → 
      T_L_law_325 l G d mc ms P x1 x2 x3 x4 h c s
    ) ∧ (((G.2.2.2.2 x4.toNatClampNeg) &&& (63 : Int32)) = 3 → 
      T_L_law_421 l G d mc ms P x1 x2 x3 x4 h c s
    ) ∧ (((G.2.2.2.2 x4.toNatClampNeg) &&& (63 : Int32)) = 4 → 
      T_L_law_477 l G d mc ms P x1 x2 x3 x4 h c s
    ) ∧ (((G.2.2.2.2 x4.toNatClampNeg) &&& (63 : Int32)) = 5 → 
      T_L_law_490 l G d mc ms P x1 x2 x3 x4 h c s
    ) ∧ (((G.2.2.2.2 x4.toNatClampNeg) &&& (63 : Int32)) = 6 → 
      T_L_law_558 l G d mc ms P x1 x2 x3 x4 h c s
    ) ∧ (((G.2.2.2.2 x4.toNatClampNeg) &&& (63 : Int32)) = 7 → 
      T_L_law_571 l G d mc ms P x1 x2 x3 x4 h c s
    ) ∧ (((G.2.2.2.2 x4.toNatClampNeg) &&& (63 : Int32)) = 8 → 
      T_L_law_584 l G d mc ms P x1 x2 x3 x4 h c s
    ) ∧ (((G.2.2.2.2 x4.toNatClampNeg) &&& (63 : Int32)) = 9 → 
      T_L_law_597 l G d mc ms P x1 x2 x3 x4 h c s
    ) ∧ (((G.2.2.2.2 x4.toNatClampNeg) &&& (63 : Int32)) = 10 → 
      T_L_law_610 l G d mc ms P x1 x2 x3 x4 h c s
    ) ∧ (((G.2.2.2.2 x4.toNatClampNeg) &&& (63 : Int32)) = 11 → 
      T_L_law_623 l G d mc ms P x1 x2 x3 x4 h c s
    ) ∧ (((G.2.2.2.2 x4.toNatClampNeg) &&& (63 : Int32)) = 12 → 
      T_L_law_679 l G d mc ms P x1 x2 x3 x4 h c s
    ) ∧ (((G.2.2.2.2 x4.toNatClampNeg) &&& (63 : Int32)) = 13 → 
      T_L_law_742 l G d mc ms P x1 x2 x3 x4 h c s
    ) ∧ (((G.2.2.2.2 x4.toNatClampNeg) &&& (63 : Int32)) = 14 → 
      T_L_law_810 l G d mc ms P x1 x2 x3 x4 h c s
    ) ∧ (((G.2.2.2.2 x4.toNatClampNeg) &&& (63 : Int32)) = 15 → 
      T_L_law_878 l G d mc ms P x1 x2 x3 x4 h c s
    ) ∧ (((G.2.2.2.2 x4.toNatClampNeg) &&& (63 : Int32)) = 16 → 
      T_L_law_946 l G d mc ms P x1 x2 x3 x4 h c s
    ) ∧ (((G.2.2.2.2 x4.toNatClampNeg) &&& (63 : Int32)) = 17 → 
      T_L_law_959 l G d mc ms P x1 x2 x3 x4 h c s
    ) ∧ (((G.2.2.2.2 x4.toNatClampNeg) &&& (63 : Int32)) = 18 → 
      T_L_law_1015 l G d mc ms P x1 x2 x3 x4 h c s
    ) ∧ (((G.2.2.2.2 x4.toNatClampNeg) &&& (63 : Int32)) = 19 → 
      T_L_law_1070 l G d mc ms P x1 x2 x3 x4 h c s
    ) ∧ (((G.2.2.2.2 x4.toNatClampNeg) &&& (63 : Int32)) = 20 → 
      T_L_law_1084 l G d mc ms P x1 x2 x3 x4 h c s
    ) ∧ (((G.2.2.2.2 x4.toNatClampNeg) &&& (63 : Int32)) = 21 → 
      T_L_law_1097 l G d mc ms P x1 x2 x3 x4 h c s
    ) ∧ (((G.2.2.2.2 x4.toNatClampNeg) &&& (63 : Int32)) = 22 → 
      T_L_law_1110 l G d mc ms P x1 x2 x3 x4 h c s
    ) ∧ (((G.2.2.2.2 x4.toNatClampNeg) &&& (63 : Int32)) = 23 → 
      T_L_law_1166 l G d mc ms P x1 x2 x3 x4 h c s
    ) ∧ (((G.2.2.2.2 x4.toNatClampNeg) &&& (63 : Int32)) = 24 → 
      T_L_law_1222 l G d mc ms P x1 x2 x3 x4 h c s
    ) ∧ (((G.2.2.2.2 x4.toNatClampNeg) &&& (63 : Int32)) = 25 → 
      T_L_law_1290 l G d mc ms P x1 x2 x3 x4 h c s
    ) ∧ (((G.2.2.2.2 x4.toNatClampNeg) &&& (63 : Int32)) = 26 → 
      T_L_law_1303 l G d mc ms P x1 x2 x3 x4 h c s
    ) ∧ (((G.2.2.2.2 x4.toNatClampNeg) &&& (63 : Int32)) = 27 → 
      T_L_law_1371 l G d mc ms P x1 x2 x3 x4 h c s
    ) ∧ (((G.2.2.2.2 x4.toNatClampNeg) &&& (63 : Int32)) = 28 → 
      T_L_law_1439 l G d mc ms P x1 x2 x3 x4 h c s
    ) ∧ (((G.2.2.2.2 x4.toNatClampNeg) &&& (63 : Int32)) = 29 → 
      T_L_law_1452 l G d mc ms P x1 x2 x3 x4 h c s
    ) ∧ (((G.2.2.2.2 x4.toNatClampNeg) &&& (63 : Int32)) = 30 → 
      T_L_law_1496 l G d mc ms P x1 x2 x3 x4 h c s
    ) ∧ (((G.2.2.2.2 x4.toNatClampNeg) &&& (63 : Int32)) = 31 → 
      T_L_law_1552 l G d mc ms P x1 x2 x3 x4 h c s
    ) ∧ (((G.2.2.2.2 x4.toNatClampNeg) &&& (63 : Int32)) = 32 → 
      T_L_law_1608 l G d mc ms P x1 x2 x3 x4 h c s
    ) ∧ (((G.2.2.2.2 x4.toNatClampNeg) &&& (63 : Int32)) = 33 → 
      T_L_law_1621 l G d mc ms P x1 x2 x3 x4 h c s
    ) ∧ (((G.2.2.2.2 x4.toNatClampNeg) &&& (63 : Int32)) = 34 → 
      T_L_law_1634 l G d mc ms P x1 x2 x3 x4 h c s
    ) ∧ (((G.2.2.2.2 x4.toNatClampNeg) &&& (63 : Int32)) = 35 → 
      T_L_law_1647 l G d mc ms P x1 x2 x3 x4 h c s
    ) ∧ (((G.2.2.2.2 x4.toNatClampNeg) &&& (63 : Int32)) = 36 → 
      T_L_law_1703 l G d mc ms P x1 x2 x3 x4 h c s
    ) ∧ (((G.2.2.2.2 x4.toNatClampNeg) &&& (63 : Int32)) = 37 → 
      T_L_law_1717 l G d mc ms P x1 x2 x3 x4 h c s
    ) ∧ (((G.2.2.2.2 x4.toNatClampNeg) &&& (63 : Int32)) = 38 → 
      T_L_law_1780 l G d mc ms P x1 x2 x3 x4 h c s
    ) ∧ (((G.2.2.2.2 x4.toNatClampNeg) &&& (63 : Int32)) = 39 → 
      T_L_law_1821 l G d mc ms P x1 x2 x3 x4 h c s
    ) ∧ (((G.2.2.2.2 x4.toNatClampNeg) &&& (63 : Int32)) = 40 → 
      T_L_law_1909 l G d mc ms P x1 x2 x3 x4 h c s
    ) ∧ (((G.2.2.2.2 x4.toNatClampNeg) &&& (63 : Int32)) = 41 → 
      T_L_law_1922 l G d mc ms P x1 x2 x3 x4 h c s
    ) ∧ (((G.2.2.2.2 x4.toNatClampNeg) &&& (63 : Int32)) = 42 → 
      T_L_law_1935 l G d mc ms P x1 x2 x3 x4 h c s
    ) ∧ (((G.2.2.2.2 x4.toNatClampNeg) &&& (63 : Int32)) = 43 → 
      T_L_law_1948 l G d mc ms P x1 x2 x3 x4 h c s
    ) ∧ (((G.2.2.2.2 x4.toNatClampNeg) &&& (63 : Int32)) = 44 → 
      T_L_law_1992 l G d mc ms P x1 x2 x3 x4 h c s
    ) ∧ (((G.2.2.2.2 x4.toNatClampNeg) &&& (63 : Int32)) = 45 → 
      T_L_law_2036 l G d mc ms P x1 x2 x3 x4 h c s
    ) ∧ (((G.2.2.2.2 x4.toNatClampNeg) &&& (63 : Int32)) = 46 → 
      T_L_law_2049 l G d mc ms P x1 x2 x3 x4 h c s
    ) ∧ (((G.2.2.2.2 x4.toNatClampNeg) &&& (63 : Int32)) = 47 → 
      T_L_law_2105 l G d mc ms P x1 x2 x3 x4 h c s
    ) ∧ (¬ ((G.2.2.2.2 x4.toNatClampNeg) &&& (63 : Int32)) = 0 → ¬ ((G.2.2.2.2 x4.toNatClampNeg) &&& (63 : Int32)) = 1 → ¬ ((G.2.2.2.2 x4.toNatClampNeg) &&& (63 : Int32)) = 2 → ¬ ((G.2.2.2.2 x4.toNatClampNeg) &&& (63 : Int32)) = 3 → ¬ ((G.2.2.2.2 x4.toNatClampNeg) &&& (63 : Int32)) = 4 → ¬ ((G.2.2.2.2 x4.toNatClampNeg) &&& (63 : Int32)) = 5 → ¬ ((G.2.2.2.2 x4.toNatClampNeg) &&& (63 : Int32)) = 6 → ¬ ((G.2.2.2.2 x4.toNatClampNeg) &&& (63 : Int32)) = 7 → ¬ ((G.2.2.2.2 x4.toNatClampNeg) &&& (63 : Int32)) = 8 → ¬ ((G.2.2.2.2 x4.toNatClampNeg) &&& (63 : Int32)) = 9 → ¬ ((G.2.2.2.2 x4.toNatClampNeg) &&& (63 : Int32)) = 10 → ¬ ((G.2.2.2.2 x4.toNatClampNeg) &&& (63 : Int32)) = 11 → ¬ ((G.2.2.2.2 x4.toNatClampNeg) &&& (63 : Int32)) = 12 → ¬ ((G.2.2.2.2 x4.toNatClampNeg) &&& (63 : Int32)) = 13 → ¬ ((G.2.2.2.2 x4.toNatClampNeg) &&& (63 : Int32)) = 14 → ¬ ((G.2.2.2.2 x4.toNatClampNeg) &&& (63 : Int32)) = 15 → ¬ ((G.2.2.2.2 x4.toNatClampNeg) &&& (63 : Int32)) = 16 → ¬ ((G.2.2.2.2 x4.toNatClampNeg) &&& (63 : Int32)) = 17 → ¬ ((G.2.2.2.2 x4.toNatClampNeg) &&& (63 : Int32)) = 18 → ¬ ((G.2.2.2.2 x4.toNatClampNeg) &&& (63 : Int32)) = 19 → ¬ ((G.2.2.2.2 x4.toNatClampNeg) &&& (63 : Int32)) = 20 → ¬ ((G.2.2.2.2 x4.toNatClampNeg) &&& (63 : Int32)) = 21 → ¬ ((G.2.2.2.2 x4.toNatClampNeg) &&& (63 : Int32)) = 22 → ¬ ((G.2.2.2.2 x4.toNatClampNeg) &&& (63 : Int32)) = 23 → ¬ ((G.2.2.2.2 x4.toNatClampNeg) &&& (63 : Int32)) = 24 → ¬ ((G.2.2.2.2 x4.toNatClampNeg) &&& (63 : Int32)) = 25 → ¬ ((G.2.2.2.2 x4.toNatClampNeg) &&& (63 : Int32)) = 26 → ¬ ((G.2.2.2.2 x4.toNatClampNeg) &&& (63 : Int32)) = 27 → ¬ ((G.2.2.2.2 x4.toNatClampNeg) &&& (63 : Int32)) = 28 → ¬ ((G.2.2.2.2 x4.toNatClampNeg) &&& (63 : Int32)) = 29 → ¬ ((G.2.2.2.2 x4.toNatClampNeg) &&& (63 : Int32)) = 30 → ¬ ((G.2.2.2.2 x4.toNatClampNeg) &&& (63 : Int32)) = 31 → ¬ ((G.2.2.2.2 x4.toNatClampNeg) &&& (63 : Int32)) = 32 → ¬ ((G.2.2.2.2 x4.toNatClampNeg) &&& (63 : Int32)) = 33 → ¬ ((G.2.2.2.2 x4.toNatClampNeg) &&& (63 : Int32)) = 34 → ¬ ((G.2.2.2.2 x4.toNatClampNeg) &&& (63 : Int32)) = 35 → ¬ ((G.2.2.2.2 x4.toNatClampNeg) &&& (63 : Int32)) = 36 → ¬ ((G.2.2.2.2 x4.toNatClampNeg) &&& (63 : Int32)) = 37 → ¬ ((G.2.2.2.2 x4.toNatClampNeg) &&& (63 : Int32)) = 38 → ¬ ((G.2.2.2.2 x4.toNatClampNeg) &&& (63 : Int32)) = 39 → ¬ ((G.2.2.2.2 x4.toNatClampNeg) &&& (63 : Int32)) = 40 → ¬ ((G.2.2.2.2 x4.toNatClampNeg) &&& (63 : Int32)) = 41 → ¬ ((G.2.2.2.2 x4.toNatClampNeg) &&& (63 : Int32)) = 42 → ¬ ((G.2.2.2.2 x4.toNatClampNeg) &&& (63 : Int32)) = 43 → ¬ ((G.2.2.2.2 x4.toNatClampNeg) &&& (63 : Int32)) = 44 → ¬ ((G.2.2.2.2 x4.toNatClampNeg) &&& (63 : Int32)) = 45 → ¬ ((G.2.2.2.2 x4.toNatClampNeg) &&& (63 : Int32)) = 46 → ¬ ((G.2.2.2.2 x4.toNatClampNeg) &&& (63 : Int32)) = 47 → 
      T_L_law_2161 l G d mc ms P x1 x2 x3 x4 h c s
    )
    )
set_option maxHeartbeats 4000000 in
theorem A_L_law_23 {l : Launch} {G : aG} {d mc ms : Nat} {P : aR → aH → Prop} {x1 : Nat} {x2 : Nat} {x3 : Nat} {x4 : Int32} {h : aH} {c s : Nat} (hl : l.stackTraces = false) (hv : V_L_law_23 l G d mc ms P x1 x2 x3 x4 h c s) : T_L_law_23 l G d mc ms P x1 x2 x3 x4 h c s := by
  intro hc hs
  unfold V_L_law_23 at hv
  refine aw_iload 4 dL_law_23 rfl ?_
  refine aw_aload_n 0 (x := G.2.2.1) dL_law_25 rfl rfl ?_
  refine aw_slen dL_law_26 ?_
  refine aw_iconst (v := 4) dL_law_27 (by decide) ?_
  refine aw_isub dL_law_28 ?_
  refine aw_icmp_gt 2167 dL_law_29 (by decide) (fun c1 => ?_) (fun c1 => ?_)
  · have hv := hv.1 c1
    refine aw_iconst (v := 1) dL_law_2167 (by decide) ?_
    exact aw_zret rfl rfl dL_law_2168 hv hc hs
  · have hv := hv.2 c1
    refine aw_aload_n 0 (x := G.2.2.1) dL_law_32 rfl rfl ?_
    refine aw_iload 4 dL_law_33 rfl ?_
    obtain ⟨z2, hv⟩ := hv
    refine aw_sld z2 dL_law_35 ?_
    refine aw_bipush (v := 63) dL_law_36 (by decide) ?_
    refine aw_iand dL_law_38 ?_
    by_cases c3_0 : ((G.2.2.2.2 x4.toNatClampNeg) &&& (63 : Int32)) = 0
    · have hv := (hv).1 c3_0
      have ex : ((G.2.2.2.2 x4.toNatClampNeg) &&& (63 : Int32)).toInt = 0 := by rw [c3_0]; decide
      refine aw_tableIn 244 dL_law_39 (by rw [ex]; decide) (by rw [ex]; decide) (by rw [ex]; rfl) (by decide) ?_
      exact hv hc hs
    by_cases c3_1 : ((G.2.2.2.2 x4.toNatClampNeg) &&& (63 : Int32)) = 1
    · have hv := ((hv).2).1 c3_1
      have ex : ((G.2.2.2.2 x4.toNatClampNeg) &&& (63 : Int32)).toInt = 1 := by rw [c3_1]; decide
      refine aw_tableIn 312 dL_law_39 (by rw [ex]; decide) (by rw [ex]; decide) (by rw [ex]; rfl) (by decide) ?_
      exact hv hc hs
    by_cases c3_2 : ((G.2.2.2.2 x4.toNatClampNeg) &&& (63 : Int32)) = 2
    · have hv := (((hv).2).2).1 c3_2
      have ex : ((G.2.2.2.2 x4.toNatClampNeg) &&& (63 : Int32)).toInt = 2 := by rw [c3_2]; decide
      refine aw_tableIn 325 dL_law_39 (by rw [ex]; decide) (by rw [ex]; decide) (by rw [ex]; rfl) (by decide) ?_
      exact hv hc hs
    by_cases c3_3 : ((G.2.2.2.2 x4.toNatClampNeg) &&& (63 : Int32)) = 3
    · have hv := ((((hv).2).2).2).1 c3_3
      have ex : ((G.2.2.2.2 x4.toNatClampNeg) &&& (63 : Int32)).toInt = 3 := by rw [c3_3]; decide
      refine aw_tableIn 421 dL_law_39 (by rw [ex]; decide) (by rw [ex]; decide) (by rw [ex]; rfl) (by decide) ?_
      exact hv hc hs
    by_cases c3_4 : ((G.2.2.2.2 x4.toNatClampNeg) &&& (63 : Int32)) = 4
    · have hv := (((((hv).2).2).2).2).1 c3_4
      have ex : ((G.2.2.2.2 x4.toNatClampNeg) &&& (63 : Int32)).toInt = 4 := by rw [c3_4]; decide
      refine aw_tableIn 477 dL_law_39 (by rw [ex]; decide) (by rw [ex]; decide) (by rw [ex]; rfl) (by decide) ?_
      exact hv hc hs
    by_cases c3_5 : ((G.2.2.2.2 x4.toNatClampNeg) &&& (63 : Int32)) = 5
    · have hv := ((((((hv).2).2).2).2).2).1 c3_5
      have ex : ((G.2.2.2.2 x4.toNatClampNeg) &&& (63 : Int32)).toInt = 5 := by rw [c3_5]; decide
      refine aw_tableIn 490 dL_law_39 (by rw [ex]; decide) (by rw [ex]; decide) (by rw [ex]; rfl) (by decide) ?_
      exact hv hc hs
    by_cases c3_6 : ((G.2.2.2.2 x4.toNatClampNeg) &&& (63 : Int32)) = 6
    · have hv := (((((((hv).2).2).2).2).2).2).1 c3_6
      have ex : ((G.2.2.2.2 x4.toNatClampNeg) &&& (63 : Int32)).toInt = 6 := by rw [c3_6]; decide
      refine aw_tableIn 558 dL_law_39 (by rw [ex]; decide) (by rw [ex]; decide) (by rw [ex]; rfl) (by decide) ?_
      exact hv hc hs
    by_cases c3_7 : ((G.2.2.2.2 x4.toNatClampNeg) &&& (63 : Int32)) = 7
    · have hv := ((((((((hv).2).2).2).2).2).2).2).1 c3_7
      have ex : ((G.2.2.2.2 x4.toNatClampNeg) &&& (63 : Int32)).toInt = 7 := by rw [c3_7]; decide
      refine aw_tableIn 571 dL_law_39 (by rw [ex]; decide) (by rw [ex]; decide) (by rw [ex]; rfl) (by decide) ?_
      exact hv hc hs
    by_cases c3_8 : ((G.2.2.2.2 x4.toNatClampNeg) &&& (63 : Int32)) = 8
    · have hv := (((((((((hv).2).2).2).2).2).2).2).2).1 c3_8
      have ex : ((G.2.2.2.2 x4.toNatClampNeg) &&& (63 : Int32)).toInt = 8 := by rw [c3_8]; decide
      refine aw_tableIn 584 dL_law_39 (by rw [ex]; decide) (by rw [ex]; decide) (by rw [ex]; rfl) (by decide) ?_
      exact hv hc hs
    by_cases c3_9 : ((G.2.2.2.2 x4.toNatClampNeg) &&& (63 : Int32)) = 9
    · have hv := ((((((((((hv).2).2).2).2).2).2).2).2).2).1 c3_9
      have ex : ((G.2.2.2.2 x4.toNatClampNeg) &&& (63 : Int32)).toInt = 9 := by rw [c3_9]; decide
      refine aw_tableIn 597 dL_law_39 (by rw [ex]; decide) (by rw [ex]; decide) (by rw [ex]; rfl) (by decide) ?_
      exact hv hc hs
    by_cases c3_10 : ((G.2.2.2.2 x4.toNatClampNeg) &&& (63 : Int32)) = 10
    · have hv := (((((((((((hv).2).2).2).2).2).2).2).2).2).2).1 c3_10
      have ex : ((G.2.2.2.2 x4.toNatClampNeg) &&& (63 : Int32)).toInt = 10 := by rw [c3_10]; decide
      refine aw_tableIn 610 dL_law_39 (by rw [ex]; decide) (by rw [ex]; decide) (by rw [ex]; rfl) (by decide) ?_
      exact hv hc hs
    by_cases c3_11 : ((G.2.2.2.2 x4.toNatClampNeg) &&& (63 : Int32)) = 11
    · have hv := ((((((((((((hv).2).2).2).2).2).2).2).2).2).2).2).1 c3_11
      have ex : ((G.2.2.2.2 x4.toNatClampNeg) &&& (63 : Int32)).toInt = 11 := by rw [c3_11]; decide
      refine aw_tableIn 623 dL_law_39 (by rw [ex]; decide) (by rw [ex]; decide) (by rw [ex]; rfl) (by decide) ?_
      exact hv hc hs
    by_cases c3_12 : ((G.2.2.2.2 x4.toNatClampNeg) &&& (63 : Int32)) = 12
    · have hv := (((((((((((((hv).2).2).2).2).2).2).2).2).2).2).2).2).1 c3_12
      have ex : ((G.2.2.2.2 x4.toNatClampNeg) &&& (63 : Int32)).toInt = 12 := by rw [c3_12]; decide
      refine aw_tableIn 679 dL_law_39 (by rw [ex]; decide) (by rw [ex]; decide) (by rw [ex]; rfl) (by decide) ?_
      exact hv hc hs
    by_cases c3_13 : ((G.2.2.2.2 x4.toNatClampNeg) &&& (63 : Int32)) = 13
    · have hv := ((((((((((((((hv).2).2).2).2).2).2).2).2).2).2).2).2).2).1 c3_13
      have ex : ((G.2.2.2.2 x4.toNatClampNeg) &&& (63 : Int32)).toInt = 13 := by rw [c3_13]; decide
      refine aw_tableIn 742 dL_law_39 (by rw [ex]; decide) (by rw [ex]; decide) (by rw [ex]; rfl) (by decide) ?_
      exact hv hc hs
    by_cases c3_14 : ((G.2.2.2.2 x4.toNatClampNeg) &&& (63 : Int32)) = 14
    · have hv := (((((((((((((((hv).2).2).2).2).2).2).2).2).2).2).2).2).2).2).1 c3_14
      have ex : ((G.2.2.2.2 x4.toNatClampNeg) &&& (63 : Int32)).toInt = 14 := by rw [c3_14]; decide
      refine aw_tableIn 810 dL_law_39 (by rw [ex]; decide) (by rw [ex]; decide) (by rw [ex]; rfl) (by decide) ?_
      exact hv hc hs
    by_cases c3_15 : ((G.2.2.2.2 x4.toNatClampNeg) &&& (63 : Int32)) = 15
    · have hv := ((((((((((((((((hv).2).2).2).2).2).2).2).2).2).2).2).2).2).2).2).1 c3_15
      have ex : ((G.2.2.2.2 x4.toNatClampNeg) &&& (63 : Int32)).toInt = 15 := by rw [c3_15]; decide
      refine aw_tableIn 878 dL_law_39 (by rw [ex]; decide) (by rw [ex]; decide) (by rw [ex]; rfl) (by decide) ?_
      exact hv hc hs
    by_cases c3_16 : ((G.2.2.2.2 x4.toNatClampNeg) &&& (63 : Int32)) = 16
    · have hv := (((((((((((((((((hv).2).2).2).2).2).2).2).2).2).2).2).2).2).2).2).2).1 c3_16
      have ex : ((G.2.2.2.2 x4.toNatClampNeg) &&& (63 : Int32)).toInt = 16 := by rw [c3_16]; decide
      refine aw_tableIn 946 dL_law_39 (by rw [ex]; decide) (by rw [ex]; decide) (by rw [ex]; rfl) (by decide) ?_
      exact hv hc hs
    by_cases c3_17 : ((G.2.2.2.2 x4.toNatClampNeg) &&& (63 : Int32)) = 17
    · have hv := ((((((((((((((((((hv).2).2).2).2).2).2).2).2).2).2).2).2).2).2).2).2).2).1 c3_17
      have ex : ((G.2.2.2.2 x4.toNatClampNeg) &&& (63 : Int32)).toInt = 17 := by rw [c3_17]; decide
      refine aw_tableIn 959 dL_law_39 (by rw [ex]; decide) (by rw [ex]; decide) (by rw [ex]; rfl) (by decide) ?_
      exact hv hc hs
    by_cases c3_18 : ((G.2.2.2.2 x4.toNatClampNeg) &&& (63 : Int32)) = 18
    · have hv := (((((((((((((((((((hv).2).2).2).2).2).2).2).2).2).2).2).2).2).2).2).2).2).2).1 c3_18
      have ex : ((G.2.2.2.2 x4.toNatClampNeg) &&& (63 : Int32)).toInt = 18 := by rw [c3_18]; decide
      refine aw_tableIn 1015 dL_law_39 (by rw [ex]; decide) (by rw [ex]; decide) (by rw [ex]; rfl) (by decide) ?_
      exact hv hc hs
    by_cases c3_19 : ((G.2.2.2.2 x4.toNatClampNeg) &&& (63 : Int32)) = 19
    · have hv := ((((((((((((((((((((hv).2).2).2).2).2).2).2).2).2).2).2).2).2).2).2).2).2).2).2).1 c3_19
      have ex : ((G.2.2.2.2 x4.toNatClampNeg) &&& (63 : Int32)).toInt = 19 := by rw [c3_19]; decide
      refine aw_tableIn 1070 dL_law_39 (by rw [ex]; decide) (by rw [ex]; decide) (by rw [ex]; rfl) (by decide) ?_
      exact hv hc hs
    by_cases c3_20 : ((G.2.2.2.2 x4.toNatClampNeg) &&& (63 : Int32)) = 20
    · have hv := (((((((((((((((((((((hv).2).2).2).2).2).2).2).2).2).2).2).2).2).2).2).2).2).2).2).2).1 c3_20
      have ex : ((G.2.2.2.2 x4.toNatClampNeg) &&& (63 : Int32)).toInt = 20 := by rw [c3_20]; decide
      refine aw_tableIn 1084 dL_law_39 (by rw [ex]; decide) (by rw [ex]; decide) (by rw [ex]; rfl) (by decide) ?_
      exact hv hc hs
    by_cases c3_21 : ((G.2.2.2.2 x4.toNatClampNeg) &&& (63 : Int32)) = 21
    · have hv := ((((((((((((((((((((((hv).2).2).2).2).2).2).2).2).2).2).2).2).2).2).2).2).2).2).2).2).2).1 c3_21
      have ex : ((G.2.2.2.2 x4.toNatClampNeg) &&& (63 : Int32)).toInt = 21 := by rw [c3_21]; decide
      refine aw_tableIn 1097 dL_law_39 (by rw [ex]; decide) (by rw [ex]; decide) (by rw [ex]; rfl) (by decide) ?_
      exact hv hc hs
    by_cases c3_22 : ((G.2.2.2.2 x4.toNatClampNeg) &&& (63 : Int32)) = 22
    · have hv := (((((((((((((((((((((((hv).2).2).2).2).2).2).2).2).2).2).2).2).2).2).2).2).2).2).2).2).2).2).1 c3_22
      have ex : ((G.2.2.2.2 x4.toNatClampNeg) &&& (63 : Int32)).toInt = 22 := by rw [c3_22]; decide
      refine aw_tableIn 1110 dL_law_39 (by rw [ex]; decide) (by rw [ex]; decide) (by rw [ex]; rfl) (by decide) ?_
      exact hv hc hs
    by_cases c3_23 : ((G.2.2.2.2 x4.toNatClampNeg) &&& (63 : Int32)) = 23
    · have hv := ((((((((((((((((((((((((hv).2).2).2).2).2).2).2).2).2).2).2).2).2).2).2).2).2).2).2).2).2).2).2).1 c3_23
      have ex : ((G.2.2.2.2 x4.toNatClampNeg) &&& (63 : Int32)).toInt = 23 := by rw [c3_23]; decide
      refine aw_tableIn 1166 dL_law_39 (by rw [ex]; decide) (by rw [ex]; decide) (by rw [ex]; rfl) (by decide) ?_
      exact hv hc hs
    by_cases c3_24 : ((G.2.2.2.2 x4.toNatClampNeg) &&& (63 : Int32)) = 24
    · have hv := (((((((((((((((((((((((((hv).2).2).2).2).2).2).2).2).2).2).2).2).2).2).2).2).2).2).2).2).2).2).2).2).1 c3_24
      have ex : ((G.2.2.2.2 x4.toNatClampNeg) &&& (63 : Int32)).toInt = 24 := by rw [c3_24]; decide
      refine aw_tableIn 1222 dL_law_39 (by rw [ex]; decide) (by rw [ex]; decide) (by rw [ex]; rfl) (by decide) ?_
      exact hv hc hs
    by_cases c3_25 : ((G.2.2.2.2 x4.toNatClampNeg) &&& (63 : Int32)) = 25
    · have hv := ((((((((((((((((((((((((((hv).2).2).2).2).2).2).2).2).2).2).2).2).2).2).2).2).2).2).2).2).2).2).2).2).2).1 c3_25
      have ex : ((G.2.2.2.2 x4.toNatClampNeg) &&& (63 : Int32)).toInt = 25 := by rw [c3_25]; decide
      refine aw_tableIn 1290 dL_law_39 (by rw [ex]; decide) (by rw [ex]; decide) (by rw [ex]; rfl) (by decide) ?_
      exact hv hc hs
    by_cases c3_26 : ((G.2.2.2.2 x4.toNatClampNeg) &&& (63 : Int32)) = 26
    · have hv := (((((((((((((((((((((((((((hv).2).2).2).2).2).2).2).2).2).2).2).2).2).2).2).2).2).2).2).2).2).2).2).2).2).2).1 c3_26
      have ex : ((G.2.2.2.2 x4.toNatClampNeg) &&& (63 : Int32)).toInt = 26 := by rw [c3_26]; decide
      refine aw_tableIn 1303 dL_law_39 (by rw [ex]; decide) (by rw [ex]; decide) (by rw [ex]; rfl) (by decide) ?_
      exact hv hc hs
    by_cases c3_27 : ((G.2.2.2.2 x4.toNatClampNeg) &&& (63 : Int32)) = 27
    · have hv := ((((((((((((((((((((((((((((hv).2).2).2).2).2).2).2).2).2).2).2).2).2).2).2).2).2).2).2).2).2).2).2).2).2).2).2).1 c3_27
      have ex : ((G.2.2.2.2 x4.toNatClampNeg) &&& (63 : Int32)).toInt = 27 := by rw [c3_27]; decide
      refine aw_tableIn 1371 dL_law_39 (by rw [ex]; decide) (by rw [ex]; decide) (by rw [ex]; rfl) (by decide) ?_
      exact hv hc hs
    by_cases c3_28 : ((G.2.2.2.2 x4.toNatClampNeg) &&& (63 : Int32)) = 28
    · have hv := (((((((((((((((((((((((((((((hv).2).2).2).2).2).2).2).2).2).2).2).2).2).2).2).2).2).2).2).2).2).2).2).2).2).2).2).2).1 c3_28
      have ex : ((G.2.2.2.2 x4.toNatClampNeg) &&& (63 : Int32)).toInt = 28 := by rw [c3_28]; decide
      refine aw_tableIn 1439 dL_law_39 (by rw [ex]; decide) (by rw [ex]; decide) (by rw [ex]; rfl) (by decide) ?_
      exact hv hc hs
    by_cases c3_29 : ((G.2.2.2.2 x4.toNatClampNeg) &&& (63 : Int32)) = 29
    · have hv := ((((((((((((((((((((((((((((((hv).2).2).2).2).2).2).2).2).2).2).2).2).2).2).2).2).2).2).2).2).2).2).2).2).2).2).2).2).2).1 c3_29
      have ex : ((G.2.2.2.2 x4.toNatClampNeg) &&& (63 : Int32)).toInt = 29 := by rw [c3_29]; decide
      refine aw_tableIn 1452 dL_law_39 (by rw [ex]; decide) (by rw [ex]; decide) (by rw [ex]; rfl) (by decide) ?_
      exact hv hc hs
    by_cases c3_30 : ((G.2.2.2.2 x4.toNatClampNeg) &&& (63 : Int32)) = 30
    · have hv := (((((((((((((((((((((((((((((((hv).2).2).2).2).2).2).2).2).2).2).2).2).2).2).2).2).2).2).2).2).2).2).2).2).2).2).2).2).2).2).1 c3_30
      have ex : ((G.2.2.2.2 x4.toNatClampNeg) &&& (63 : Int32)).toInt = 30 := by rw [c3_30]; decide
      refine aw_tableIn 1496 dL_law_39 (by rw [ex]; decide) (by rw [ex]; decide) (by rw [ex]; rfl) (by decide) ?_
      exact hv hc hs
    by_cases c3_31 : ((G.2.2.2.2 x4.toNatClampNeg) &&& (63 : Int32)) = 31
    · have hv := ((((((((((((((((((((((((((((((((hv).2).2).2).2).2).2).2).2).2).2).2).2).2).2).2).2).2).2).2).2).2).2).2).2).2).2).2).2).2).2).2).1 c3_31
      have ex : ((G.2.2.2.2 x4.toNatClampNeg) &&& (63 : Int32)).toInt = 31 := by rw [c3_31]; decide
      refine aw_tableIn 1552 dL_law_39 (by rw [ex]; decide) (by rw [ex]; decide) (by rw [ex]; rfl) (by decide) ?_
      exact hv hc hs
    by_cases c3_32 : ((G.2.2.2.2 x4.toNatClampNeg) &&& (63 : Int32)) = 32
    · have hv := (((((((((((((((((((((((((((((((((hv).2).2).2).2).2).2).2).2).2).2).2).2).2).2).2).2).2).2).2).2).2).2).2).2).2).2).2).2).2).2).2).2).1 c3_32
      have ex : ((G.2.2.2.2 x4.toNatClampNeg) &&& (63 : Int32)).toInt = 32 := by rw [c3_32]; decide
      refine aw_tableIn 1608 dL_law_39 (by rw [ex]; decide) (by rw [ex]; decide) (by rw [ex]; rfl) (by decide) ?_
      exact hv hc hs
    by_cases c3_33 : ((G.2.2.2.2 x4.toNatClampNeg) &&& (63 : Int32)) = 33
    · have hv := ((((((((((((((((((((((((((((((((((hv).2).2).2).2).2).2).2).2).2).2).2).2).2).2).2).2).2).2).2).2).2).2).2).2).2).2).2).2).2).2).2).2).2).1 c3_33
      have ex : ((G.2.2.2.2 x4.toNatClampNeg) &&& (63 : Int32)).toInt = 33 := by rw [c3_33]; decide
      refine aw_tableIn 1621 dL_law_39 (by rw [ex]; decide) (by rw [ex]; decide) (by rw [ex]; rfl) (by decide) ?_
      exact hv hc hs
    by_cases c3_34 : ((G.2.2.2.2 x4.toNatClampNeg) &&& (63 : Int32)) = 34
    · have hv := (((((((((((((((((((((((((((((((((((hv).2).2).2).2).2).2).2).2).2).2).2).2).2).2).2).2).2).2).2).2).2).2).2).2).2).2).2).2).2).2).2).2).2).2).1 c3_34
      have ex : ((G.2.2.2.2 x4.toNatClampNeg) &&& (63 : Int32)).toInt = 34 := by rw [c3_34]; decide
      refine aw_tableIn 1634 dL_law_39 (by rw [ex]; decide) (by rw [ex]; decide) (by rw [ex]; rfl) (by decide) ?_
      exact hv hc hs
    by_cases c3_35 : ((G.2.2.2.2 x4.toNatClampNeg) &&& (63 : Int32)) = 35
    · have hv := ((((((((((((((((((((((((((((((((((((hv).2).2).2).2).2).2).2).2).2).2).2).2).2).2).2).2).2).2).2).2).2).2).2).2).2).2).2).2).2).2).2).2).2).2).2).1 c3_35
      have ex : ((G.2.2.2.2 x4.toNatClampNeg) &&& (63 : Int32)).toInt = 35 := by rw [c3_35]; decide
      refine aw_tableIn 1647 dL_law_39 (by rw [ex]; decide) (by rw [ex]; decide) (by rw [ex]; rfl) (by decide) ?_
      exact hv hc hs
    by_cases c3_36 : ((G.2.2.2.2 x4.toNatClampNeg) &&& (63 : Int32)) = 36
    · have hv := (((((((((((((((((((((((((((((((((((((hv).2).2).2).2).2).2).2).2).2).2).2).2).2).2).2).2).2).2).2).2).2).2).2).2).2).2).2).2).2).2).2).2).2).2).2).2).1 c3_36
      have ex : ((G.2.2.2.2 x4.toNatClampNeg) &&& (63 : Int32)).toInt = 36 := by rw [c3_36]; decide
      refine aw_tableIn 1703 dL_law_39 (by rw [ex]; decide) (by rw [ex]; decide) (by rw [ex]; rfl) (by decide) ?_
      exact hv hc hs
    by_cases c3_37 : ((G.2.2.2.2 x4.toNatClampNeg) &&& (63 : Int32)) = 37
    · have hv := ((((((((((((((((((((((((((((((((((((((hv).2).2).2).2).2).2).2).2).2).2).2).2).2).2).2).2).2).2).2).2).2).2).2).2).2).2).2).2).2).2).2).2).2).2).2).2).2).1 c3_37
      have ex : ((G.2.2.2.2 x4.toNatClampNeg) &&& (63 : Int32)).toInt = 37 := by rw [c3_37]; decide
      refine aw_tableIn 1717 dL_law_39 (by rw [ex]; decide) (by rw [ex]; decide) (by rw [ex]; rfl) (by decide) ?_
      exact hv hc hs
    by_cases c3_38 : ((G.2.2.2.2 x4.toNatClampNeg) &&& (63 : Int32)) = 38
    · have hv := (((((((((((((((((((((((((((((((((((((((hv).2).2).2).2).2).2).2).2).2).2).2).2).2).2).2).2).2).2).2).2).2).2).2).2).2).2).2).2).2).2).2).2).2).2).2).2).2).2).1 c3_38
      have ex : ((G.2.2.2.2 x4.toNatClampNeg) &&& (63 : Int32)).toInt = 38 := by rw [c3_38]; decide
      refine aw_tableIn 1780 dL_law_39 (by rw [ex]; decide) (by rw [ex]; decide) (by rw [ex]; rfl) (by decide) ?_
      exact hv hc hs
    by_cases c3_39 : ((G.2.2.2.2 x4.toNatClampNeg) &&& (63 : Int32)) = 39
    · have hv := ((((((((((((((((((((((((((((((((((((((((hv).2).2).2).2).2).2).2).2).2).2).2).2).2).2).2).2).2).2).2).2).2).2).2).2).2).2).2).2).2).2).2).2).2).2).2).2).2).2).2).1 c3_39
      have ex : ((G.2.2.2.2 x4.toNatClampNeg) &&& (63 : Int32)).toInt = 39 := by rw [c3_39]; decide
      refine aw_tableIn 1821 dL_law_39 (by rw [ex]; decide) (by rw [ex]; decide) (by rw [ex]; rfl) (by decide) ?_
      exact hv hc hs
    by_cases c3_40 : ((G.2.2.2.2 x4.toNatClampNeg) &&& (63 : Int32)) = 40
    · have hv := (((((((((((((((((((((((((((((((((((((((((hv).2).2).2).2).2).2).2).2).2).2).2).2).2).2).2).2).2).2).2).2).2).2).2).2).2).2).2).2).2).2).2).2).2).2).2).2).2).2).2).2).1 c3_40
      have ex : ((G.2.2.2.2 x4.toNatClampNeg) &&& (63 : Int32)).toInt = 40 := by rw [c3_40]; decide
      refine aw_tableIn 1909 dL_law_39 (by rw [ex]; decide) (by rw [ex]; decide) (by rw [ex]; rfl) (by decide) ?_
      exact hv hc hs
    by_cases c3_41 : ((G.2.2.2.2 x4.toNatClampNeg) &&& (63 : Int32)) = 41
    · have hv := ((((((((((((((((((((((((((((((((((((((((((hv).2).2).2).2).2).2).2).2).2).2).2).2).2).2).2).2).2).2).2).2).2).2).2).2).2).2).2).2).2).2).2).2).2).2).2).2).2).2).2).2).2).1 c3_41
      have ex : ((G.2.2.2.2 x4.toNatClampNeg) &&& (63 : Int32)).toInt = 41 := by rw [c3_41]; decide
      refine aw_tableIn 1922 dL_law_39 (by rw [ex]; decide) (by rw [ex]; decide) (by rw [ex]; rfl) (by decide) ?_
      exact hv hc hs
    by_cases c3_42 : ((G.2.2.2.2 x4.toNatClampNeg) &&& (63 : Int32)) = 42
    · have hv := (((((((((((((((((((((((((((((((((((((((((((hv).2).2).2).2).2).2).2).2).2).2).2).2).2).2).2).2).2).2).2).2).2).2).2).2).2).2).2).2).2).2).2).2).2).2).2).2).2).2).2).2).2).2).1 c3_42
      have ex : ((G.2.2.2.2 x4.toNatClampNeg) &&& (63 : Int32)).toInt = 42 := by rw [c3_42]; decide
      refine aw_tableIn 1935 dL_law_39 (by rw [ex]; decide) (by rw [ex]; decide) (by rw [ex]; rfl) (by decide) ?_
      exact hv hc hs
    by_cases c3_43 : ((G.2.2.2.2 x4.toNatClampNeg) &&& (63 : Int32)) = 43
    · have hv := ((((((((((((((((((((((((((((((((((((((((((((hv).2).2).2).2).2).2).2).2).2).2).2).2).2).2).2).2).2).2).2).2).2).2).2).2).2).2).2).2).2).2).2).2).2).2).2).2).2).2).2).2).2).2).2).1 c3_43
      have ex : ((G.2.2.2.2 x4.toNatClampNeg) &&& (63 : Int32)).toInt = 43 := by rw [c3_43]; decide
      refine aw_tableIn 1948 dL_law_39 (by rw [ex]; decide) (by rw [ex]; decide) (by rw [ex]; rfl) (by decide) ?_
      exact hv hc hs
    by_cases c3_44 : ((G.2.2.2.2 x4.toNatClampNeg) &&& (63 : Int32)) = 44
    · have hv := (((((((((((((((((((((((((((((((((((((((((((((hv).2).2).2).2).2).2).2).2).2).2).2).2).2).2).2).2).2).2).2).2).2).2).2).2).2).2).2).2).2).2).2).2).2).2).2).2).2).2).2).2).2).2).2).2).1 c3_44
      have ex : ((G.2.2.2.2 x4.toNatClampNeg) &&& (63 : Int32)).toInt = 44 := by rw [c3_44]; decide
      refine aw_tableIn 1992 dL_law_39 (by rw [ex]; decide) (by rw [ex]; decide) (by rw [ex]; rfl) (by decide) ?_
      exact hv hc hs
    by_cases c3_45 : ((G.2.2.2.2 x4.toNatClampNeg) &&& (63 : Int32)) = 45
    · have hv := ((((((((((((((((((((((((((((((((((((((((((((((hv).2).2).2).2).2).2).2).2).2).2).2).2).2).2).2).2).2).2).2).2).2).2).2).2).2).2).2).2).2).2).2).2).2).2).2).2).2).2).2).2).2).2).2).2).2).1 c3_45
      have ex : ((G.2.2.2.2 x4.toNatClampNeg) &&& (63 : Int32)).toInt = 45 := by rw [c3_45]; decide
      refine aw_tableIn 2036 dL_law_39 (by rw [ex]; decide) (by rw [ex]; decide) (by rw [ex]; rfl) (by decide) ?_
      exact hv hc hs
    by_cases c3_46 : ((G.2.2.2.2 x4.toNatClampNeg) &&& (63 : Int32)) = 46
    · have hv := (((((((((((((((((((((((((((((((((((((((((((((((hv).2).2).2).2).2).2).2).2).2).2).2).2).2).2).2).2).2).2).2).2).2).2).2).2).2).2).2).2).2).2).2).2).2).2).2).2).2).2).2).2).2).2).2).2).2).2).1 c3_46
      have ex : ((G.2.2.2.2 x4.toNatClampNeg) &&& (63 : Int32)).toInt = 46 := by rw [c3_46]; decide
      refine aw_tableIn 2049 dL_law_39 (by rw [ex]; decide) (by rw [ex]; decide) (by rw [ex]; rfl) (by decide) ?_
      exact hv hc hs
    by_cases c3_47 : ((G.2.2.2.2 x4.toNatClampNeg) &&& (63 : Int32)) = 47
    · have hv := ((((((((((((((((((((((((((((((((((((((((((((((((hv).2).2).2).2).2).2).2).2).2).2).2).2).2).2).2).2).2).2).2).2).2).2).2).2).2).2).2).2).2).2).2).2).2).2).2).2).2).2).2).2).2).2).2).2).2).2).2).1 c3_47
      have ex : ((G.2.2.2.2 x4.toNatClampNeg) &&& (63 : Int32)).toInt = 47 := by rw [c3_47]; decide
      refine aw_tableIn 2105 dL_law_39 (by rw [ex]; decide) (by rw [ex]; decide) (by rw [ex]; rfl) (by decide) ?_
      exact hv hc hs
    have hv := (((((((((((((((((((((((((((((((((((((((((((((((((hv).2).2).2).2).2).2).2).2).2).2).2).2).2).2).2).2).2).2).2).2).2).2).2).2).2).2).2).2).2).2).2).2).2).2).2).2).2).2).2).2).2).2).2).2).2).2).2).2) c3_0 c3_1 c3_2 c3_3 c3_4 c3_5 c3_6 c3_7 c3_8 c3_9 c3_10 c3_11 c3_12 c3_13 c3_14 c3_15 c3_16 c3_17 c3_18 c3_19 c3_20 c3_21 c3_22 c3_23 c3_24 c3_25 c3_26 c3_27 c3_28 c3_29 c3_30 c3_31 c3_32 c3_33 c3_34 c3_35 c3_36 c3_37 c3_38 c3_39 c3_40 c3_41 c3_42 c3_43 c3_44 c3_45 c3_46 c3_47
    refine aw_tableOut 2161 dL_law_39 (by have ec3_0 := lv_neT (a := 0) c3_0 (by decide); have ec3_1 := lv_neT (a := 1) c3_1 (by decide); have ec3_2 := lv_neT (a := 2) c3_2 (by decide); have ec3_3 := lv_neT (a := 3) c3_3 (by decide); have ec3_4 := lv_neT (a := 4) c3_4 (by decide); have ec3_5 := lv_neT (a := 5) c3_5 (by decide); have ec3_6 := lv_neT (a := 6) c3_6 (by decide); have ec3_7 := lv_neT (a := 7) c3_7 (by decide); have ec3_8 := lv_neT (a := 8) c3_8 (by decide); have ec3_9 := lv_neT (a := 9) c3_9 (by decide); have ec3_10 := lv_neT (a := 10) c3_10 (by decide); have ec3_11 := lv_neT (a := 11) c3_11 (by decide); have ec3_12 := lv_neT (a := 12) c3_12 (by decide); have ec3_13 := lv_neT (a := 13) c3_13 (by decide); have ec3_14 := lv_neT (a := 14) c3_14 (by decide); have ec3_15 := lv_neT (a := 15) c3_15 (by decide); have ec3_16 := lv_neT (a := 16) c3_16 (by decide); have ec3_17 := lv_neT (a := 17) c3_17 (by decide); have ec3_18 := lv_neT (a := 18) c3_18 (by decide); have ec3_19 := lv_neT (a := 19) c3_19 (by decide); have ec3_20 := lv_neT (a := 20) c3_20 (by decide); have ec3_21 := lv_neT (a := 21) c3_21 (by decide); have ec3_22 := lv_neT (a := 22) c3_22 (by decide); have ec3_23 := lv_neT (a := 23) c3_23 (by decide); have ec3_24 := lv_neT (a := 24) c3_24 (by decide); have ec3_25 := lv_neT (a := 25) c3_25 (by decide); have ec3_26 := lv_neT (a := 26) c3_26 (by decide); have ec3_27 := lv_neT (a := 27) c3_27 (by decide); have ec3_28 := lv_neT (a := 28) c3_28 (by decide); have ec3_29 := lv_neT (a := 29) c3_29 (by decide); have ec3_30 := lv_neT (a := 30) c3_30 (by decide); have ec3_31 := lv_neT (a := 31) c3_31 (by decide); have ec3_32 := lv_neT (a := 32) c3_32 (by decide); have ec3_33 := lv_neT (a := 33) c3_33 (by decide); have ec3_34 := lv_neT (a := 34) c3_34 (by decide); have ec3_35 := lv_neT (a := 35) c3_35 (by decide); have ec3_36 := lv_neT (a := 36) c3_36 (by decide); have ec3_37 := lv_neT (a := 37) c3_37 (by decide); have ec3_38 := lv_neT (a := 38) c3_38 (by decide); have ec3_39 := lv_neT (a := 39) c3_39 (by decide); have ec3_40 := lv_neT (a := 40) c3_40 (by decide); have ec3_41 := lv_neT (a := 41) c3_41 (by decide); have ec3_42 := lv_neT (a := 42) c3_42 (by decide); have ec3_43 := lv_neT (a := 43) c3_43 (by decide); have ec3_44 := lv_neT (a := 44) c3_44 (by decide); have ec3_45 := lv_neT (a := 45) c3_45 (by decide); have ec3_46 := lv_neT (a := 46) c3_46 (by decide); have ec3_47 := lv_neT (a := 47) c3_47 (by decide); omega) (by decide) ?_
    exact hv hc hs
def V_L_law_244 (l : Launch) (G : aG) (d mc ms : Nat) (P : aR → aH → Prop) (x1 : Nat) (x2 : Nat) (x3 : Nat) (x4 : Int32) (h : aH) (c s : Nat) : Prop :=
  vp_in (x4 + (1 : Int32)) G.2.2.2.1 ∧
  vp_in (x4 + (2 : Int32)) G.2.2.2.1 ∧
  vC l G mX0_start (wsX mX0_start) d mc ms [.ref x1, .int (G.2.2.2.2 (x4 + (1 : Int32)).toNatClampNeg), .int (G.2.2.2.2 (x4 + (2 : Int32)).toNatClampNeg), .ref x3] h c s (xP P) (kI fun y6 h7 c8 s9 => 
  vp_in (x4 + (1 : Int32)) G.2.2.2.1 ∧
  vp_in (x4 + (2 : Int32)) G.2.2.2.1 ∧
  vIs h7 x2 0 (
  vC l G mX6_start (wsN mX6_start) d mc ms [.ref x2, .int (G.2.2.2.2 (x4 + (1 : Int32)).toNatClampNeg), .int (G.2.2.2.2 (x4 + (2 : Int32)).toNatClampNeg)] h7 c8 s9 (xP P) (kI fun y12 h13 c14 s15 => 
  vIs h13 x2 0 (
  vC l G mX6_thrown (wsN mX6_thrown) d mc ms [.ref x2] h13 c14 s15 (xP P) (kI fun y16 h17 c18 s19 => 
  (y16 = y6 → 
    (¬ y6 = 0 → 
      T_L_law_2161 l G d mc ms P x1 x2 x3 x4 h17 c18 s19
      ) ∧ (y6 = 0 → 
      vAL h17 x3 (0 : Int32) fun y22 =>
      ((lg_cmp y22 y12.toInt64) = 0 → 
        T_L_law_2161 l G d mc ms P x1 x2 x3 x4 h17 c18 s19
        ) ∧ (¬ (lg_cmp y22 y12.toInt64) = 0 → 
        P (.inl (some (.int 0))) h17
        )
      )
    ) ∧ (¬ y16 = y6 → 
    P (.inl (some (.int 0))) h17
    ))))))
set_option maxHeartbeats 4000000 in
theorem A_L_law_244 {l : Launch} {G : aG} {d mc ms : Nat} {P : aR → aH → Prop} {x1 : Nat} {x2 : Nat} {x3 : Nat} {x4 : Int32} {h : aH} {c s : Nat} (hl : l.stackTraces = false) (hv : V_L_law_244 l G d mc ms P x1 x2 x3 x4 h c s) : T_L_law_244 l G d mc ms P x1 x2 x3 x4 h c s := by
  intro hc hs
  unfold V_L_law_244 at hv
  refine aw_aload_n 1 (x := x1) dL_law_244 rfl rfl ?_
  refine aw_aload_n 0 (x := G.2.2.1) dL_law_245 rfl rfl ?_
  refine aw_iload 4 dL_law_246 rfl ?_
  refine aw_iconst (v := 1) dL_law_248 (by decide) ?_
  refine aw_iadd dL_law_249 ?_
  obtain ⟨z4, hv⟩ := hv
  refine aw_sld z4 dL_law_250 ?_
  refine aw_aload_n 0 (x := G.2.2.1) dL_law_251 rfl rfl ?_
  refine aw_iload 4 dL_law_252 rfl ?_
  refine aw_iconst (v := 2) dL_law_254 (by decide) ?_
  refine aw_iadd dL_law_255 ?_
  obtain ⟨z5, hv⟩ := hv
  refine aw_sld z5 dL_law_256 ?_
  refine aw_aload_n 3 (x := x3) dL_law_257 rfl rfl ?_
  obtain ⟨d2, mc2, ms2, Q, hM, hd9, hc9, hs9, hv, hx⟩ := hv
  refine aw_callSW (rest := []) hM nX0_start q1330 q1331 q118 q1332 dL_law_258 rfl hd9 (by decide) (Nat.le_of_ble_eq_true rfl) hc9 hs9 ?_ ?_
  rotate_left
  · exact fun E h2 q => aX_out (hx E h2 q) rfl hc9 hs9
  intro v9 h7 hq
  have hv := hv v9 h7 hq
  obtain ⟨y6, rfl, hv⟩ := hv
  refine aw_eqv (pc2 := 261) (st2 := [.int y6]) rfl rfl rfl rfl ?_
  revert hv hc9 hs9; generalize c + mc2 = c8; generalize s + ms2 = s9; intro hc9 hs9 hv
  refine aw_istore (lv' := [(5, .int y6), (0, .ref G.2.2.1), (1, .ref x1), (2, .ref x2), (3, .ref x3), (4, .int x4)]) dL_law_261 (Nat.le_of_ble_eq_true rfl) rfl ?_
  refine aw_aload_n 3 (x := x2) dL_law_263 rfl rfl ?_
  refine aw_aload_n 1 (x := G.2.2.1) dL_law_264 rfl rfl ?_
  refine aw_iload 5 dL_law_265 rfl ?_
  refine aw_iconst (v := 1) dL_law_267 (by decide) ?_
  refine aw_iadd dL_law_268 ?_
  obtain ⟨z10, hv⟩ := hv
  refine aw_sld z10 dL_law_269 ?_
  refine aw_aload_n 1 (x := G.2.2.1) dL_law_270 rfl rfl ?_
  refine aw_iload 5 dL_law_271 rfl ?_
  refine aw_iconst (v := 2) dL_law_273 (by decide) ?_
  refine aw_iadd dL_law_274 ?_
  obtain ⟨z11, hv⟩ := hv
  refine aw_sld z11 dL_law_275 ?_
  obtain ⟨⟨fs, he⟩, hv⟩ := hv
  obtain ⟨d2, mc2, ms2, Q, hM, hd9, hc9, hs9, hv, hx⟩ := hv
  refine aw_callV (rest := []) hM he rfl rfl nX6_start q1818 q1819 q1820 q137 q1821 dL_law_276 rfl hd9 (by decide) (Nat.le_of_ble_eq_true rfl) hc9 hs9 ?_ ?_
  rotate_left
  · exact fun E h2 q => aX_out (hx E h2 q) rfl hc9 hs9
  intro v9 h13 hq
  have hv := hv v9 h13 hq
  obtain ⟨y12, rfl, hv⟩ := hv
  refine aw_eqv (pc2 := 279) (st2 := [.int y12]) rfl rfl rfl rfl ?_
  revert hv hc9 hs9; generalize c8 + mc2 = c14; generalize s9 + ms2 = s15; intro hc9 hs9 hv
  refine aw_istore (lv' := [(6, .int y12), (5, .int y6), (0, .ref G.2.2.1), (1, .ref x1), (2, .ref x2), (3, .ref x3), (4, .int x4)]) dL_law_279 (Nat.le_of_ble_eq_true rfl) rfl ?_
  refine aw_aload_n 4 (x := x2) dL_law_281 rfl rfl ?_
  obtain ⟨⟨fs, he⟩, hv⟩ := hv
  obtain ⟨d2, mc2, ms2, Q, hM, hd9, hc9, hs9, hv, hx⟩ := hv
  refine aw_callV (rest := []) hM he rfl rfl nX6_thrown q1814 q1815 q1816 q137 q1817 dL_law_282 rfl hd9 (by decide) (Nat.le_of_ble_eq_true rfl) hc9 hs9 ?_ ?_
  rotate_left
  · exact fun E h2 q => aX_out (hx E h2 q) rfl hc9 hs9
  intro v9 h17 hq
  have hv := hv v9 h17 hq
  obtain ⟨y16, rfl, hv⟩ := hv
  refine aw_eqv (pc2 := 285) (st2 := [.int y16]) rfl rfl rfl rfl ?_
  revert hv hc9 hs9; generalize c14 + mc2 = c18; generalize s15 + ms2 = s19; intro hc9 hs9 hv
  refine aw_iload 1 dL_law_285 rfl ?_
  refine aw_icmp_eq 292 dL_law_287 (by decide) (fun c20 => ?_) (fun c20 => ?_)
  · have hv := hv.1 c20
    refine aw_iload 1 dL_law_292 rfl ?_
    refine aw_if_ne 309 dL_law_294 (by decide) (fun c21 => ?_) (fun c21 => ?_)
    · have hv := hv.1 c21
      refine aw_goto 2161 dL_law_309 (by decide) ?_
      refine aw_sub [2, 3, 4, 5, 6] rfl ?_
      exact hv hc9 hs9
    · have hv := hv.2 c21
      refine aw_aload_n 5 (x := x3) dL_law_297 rfl rfl ?_
      refine aw_iconst (v := 0) dL_law_298 (by decide) ?_
      obtain ⟨n9, f9, he, hin, hv⟩ := hv
      refine aw_lald he hin dL_law_299 ?_
      revert hv; generalize f9 ((0 : Int32)).toNatClampNeg = y22; intro hv
      refine aw_iload 0 dL_law_300 rfl ?_
      refine aw_i2l dL_law_302 ?_
      refine aw_lcmp dL_law_303 ?_
      refine aw_if_eq 309 dL_law_304 (by decide) (fun c23 => ?_) (fun c23 => ?_)
      · have hv := hv.1 c23
        refine aw_goto 2161 dL_law_309 (by decide) ?_
        refine aw_sub [2, 3, 4, 5, 6] rfl ?_
        exact hv hc9 hs9
      · have hv := hv.2 c23
        refine aw_iconst (v := 0) dL_law_307 (by decide) ?_
        exact aw_zret rfl rfl dL_law_308 hv hc9 hs9
  · have hv := hv.2 c20
    refine aw_iconst (v := 0) dL_law_290 (by decide) ?_
    exact aw_zret rfl rfl dL_law_291 hv hc9 hs9
def V_L_law_312 (l : Launch) (G : aG) (d mc ms : Nat) (P : aR → aH → Prop) (x1 : Nat) (x2 : Nat) (x3 : Nat) (x4 : Int32) (h : aH) (c s : Nat) : Prop :=
  vIs h x1 1 (
  vC l G mX1_turnDiagonals (wsN mX1_turnDiagonals) d mc ms [.ref x1] h c s (xP P) (kI fun y24 h25 c26 s27 => 
  vIs h25 x2 0 (
  vC l G mX6_turnDiagonals (wsN mX6_turnDiagonals) d mc ms [.ref x2] h25 c26 s27 (xP P) (kI fun y28 h29 c30 s31 => 
  (y24 = y28 → 
    T_L_law_2161 l G d mc ms P x1 x2 x3 x4 h29 c30 s31
    ) ∧ (¬ y24 = y28 → 
    P (.inl (some (.int 0))) h29
    )))))
set_option maxHeartbeats 4000000 in
theorem A_L_law_312 {l : Launch} {G : aG} {d mc ms : Nat} {P : aR → aH → Prop} {x1 : Nat} {x2 : Nat} {x3 : Nat} {x4 : Int32} {h : aH} {c s : Nat} (hl : l.stackTraces = false) (hv : V_L_law_312 l G d mc ms P x1 x2 x3 x4 h c s) : T_L_law_312 l G d mc ms P x1 x2 x3 x4 h c s := by
  intro hc hs
  unfold V_L_law_312 at hv
  refine aw_aload_n 1 (x := x1) dL_law_312 rfl rfl ?_
  obtain ⟨⟨fs, he⟩, hv⟩ := hv
  obtain ⟨d2, mc2, ms2, Q, hM, hd9, hc9, hs9, hv, hx⟩ := hv
  refine aw_callV (rest := []) hM he rfl rfl nX1_turnDiagonals q460 q461 q462 q119 q463 dL_law_313 rfl hd9 (by decide) (Nat.le_of_ble_eq_true rfl) hc9 hs9 ?_ ?_
  rotate_left
  · exact fun E h2 q => aX_out (hx E h2 q) rfl hc9 hs9
  intro v9 h25 hq
  have hv := hv v9 h25 hq
  obtain ⟨y24, rfl, hv⟩ := hv
  refine aw_eqv (pc2 := 316) (st2 := [.int y24]) rfl rfl rfl rfl ?_
  revert hv hc9 hs9; generalize c + mc2 = c26; generalize s + ms2 = s27; intro hc9 hs9 hv
  refine aw_aload_n 2 (x := x2) dL_law_316 rfl rfl ?_
  obtain ⟨⟨fs, he⟩, hv⟩ := hv
  obtain ⟨d2, mc2, ms2, Q, hM, hd9, hc9, hs9, hv, hx⟩ := hv
  refine aw_callV (rest := [.int y24]) hM he rfl rfl nX6_turnDiagonals q1837 q1838 q1839 q137 q1840 dL_law_317 rfl hd9 (by decide) (Nat.le_of_ble_eq_true rfl) hc9 hs9 ?_ ?_
  rotate_left
  · exact fun E h2 q => aX_out (hx E h2 q) rfl hc9 hs9
  intro v9 h29 hq
  have hv := hv v9 h29 hq
  obtain ⟨y28, rfl, hv⟩ := hv
  refine aw_eqv (pc2 := 320) (st2 := [.int y28, .int y24]) rfl rfl rfl rfl ?_
  revert hv hc9 hs9; generalize c26 + mc2 = c30; generalize s27 + ms2 = s31; intro hc9 hs9 hv
  refine aw_icmp_eq 2161 dL_law_320 (by decide) (fun c32 => ?_) (fun c32 => ?_)
  · have hv := hv.1 c32
    exact hv hc9 hs9
  · have hv := hv.2 c32
    refine aw_iconst (v := 0) dL_law_323 (by decide) ?_
    exact aw_zret rfl rfl dL_law_324 hv hc9 hs9
def V_L_law_325 (l : Launch) (G : aG) (d mc ms : Nat) (P : aR → aH → Prop) (x1 : Nat) (x2 : Nat) (x3 : Nat) (x4 : Int32) (h : aH) (c s : Nat) : Prop :=
  vp_in (x4 + (1 : Int32)) G.2.2.2.1 ∧
  vp_in (x4 + (2 : Int32)) G.2.2.2.1 ∧
  vp_in (x4 + (3 : Int32)) G.2.2.2.1 ∧
  vC l G mX0_setTelling (wsX mX0_setTelling) d mc ms [.ref x1, .int (G.2.2.2.2 (x4 + (1 : Int32)).toNatClampNeg), .int (G.2.2.2.2 (x4 + (2 : Int32)).toNatClampNeg), .int (if (G.2.2.2.2 (x4 + (3 : Int32)).toNatClampNeg) = 0 then (0 : Int32) else 1), .ref x3] h c s (xP P) (kI fun y37 h38 c39 s40 => 
  vp_in (x4 + (1 : Int32)) G.2.2.2.1 ∧
  vp_in (x4 + (2 : Int32)) G.2.2.2.1 ∧
  vp_in (x4 + (3 : Int32)) G.2.2.2.1 ∧
  vIs h38 x2 0 (
  vC l G mX6_setTelling (wsN mX6_setTelling) d mc ms [.ref x2, .int (G.2.2.2.2 (x4 + (1 : Int32)).toNatClampNeg), .int (G.2.2.2.2 (x4 + (2 : Int32)).toNatClampNeg), .int (if (G.2.2.2.2 (x4 + (3 : Int32)).toNatClampNeg) = 0 then (0 : Int32) else 1)] h38 c39 s40 (xP P) (kI fun y45 h46 c47 s48 => 
  vIs h46 x2 0 (
  vC l G mX6_thrown (wsN mX6_thrown) d mc ms [.ref x2] h46 c47 s48 (xP P) (kI fun y49 h50 c51 s52 => 
  (y49 = y37 → 
    (¬ y37 = 0 → 
      T_L_law_2161 l G d mc ms P x1 x2 x3 x4 h50 c51 s52
      ) ∧ (y37 = 0 → 
      vAL h50 x3 (0 : Int32) fun y55 =>
      ((lg_cmp y55 y45.toInt64) = 0 → 
        T_L_law_2161 l G d mc ms P x1 x2 x3 x4 h50 c51 s52
        ) ∧ (¬ (lg_cmp y55 y45.toInt64) = 0 → 
        P (.inl (some (.int 0))) h50
        )
      )
    ) ∧ (¬ y49 = y37 → 
    P (.inl (some (.int 0))) h50
    ))))))
set_option maxHeartbeats 4000000 in
theorem A_L_law_325 {l : Launch} {G : aG} {d mc ms : Nat} {P : aR → aH → Prop} {x1 : Nat} {x2 : Nat} {x3 : Nat} {x4 : Int32} {h : aH} {c s : Nat} (hl : l.stackTraces = false) (hv : V_L_law_325 l G d mc ms P x1 x2 x3 x4 h c s) : T_L_law_325 l G d mc ms P x1 x2 x3 x4 h c s := by
  intro hc hs
  unfold V_L_law_325 at hv
  refine aw_aload_n 1 (x := x1) dL_law_325 rfl rfl ?_
  refine aw_aload_n 0 (x := G.2.2.1) dL_law_326 rfl rfl ?_
  refine aw_iload 4 dL_law_327 rfl ?_
  refine aw_iconst (v := 1) dL_law_329 (by decide) ?_
  refine aw_iadd dL_law_330 ?_
  obtain ⟨z33, hv⟩ := hv
  refine aw_sld z33 dL_law_331 ?_
  refine aw_aload_n 0 (x := G.2.2.1) dL_law_332 rfl rfl ?_
  refine aw_iload 4 dL_law_333 rfl ?_
  refine aw_iconst (v := 2) dL_law_335 (by decide) ?_
  refine aw_iadd dL_law_336 ?_
  obtain ⟨z34, hv⟩ := hv
  refine aw_sld z34 dL_law_337 ?_
  refine aw_aload_n 0 (x := G.2.2.1) dL_law_338 rfl rfl ?_
  refine aw_iload 4 dL_law_339 rfl ?_
  refine aw_iconst (v := 3) dL_law_341 (by decide) ?_
  refine aw_iadd dL_law_342 ?_
  obtain ⟨z35, hv⟩ := hv
  refine aw_sld z35 dL_law_343 ?_
  have J9 : AW l G mL_law d mc ms P 352 [(0, .ref G.2.2.1), (1, .ref x1), (2, .ref x2), (3, .ref x3), (4, .int x4)] [.int (if (G.2.2.2.2 (x4 + (3 : Int32)).toNatClampNeg) = 0 then (0 : Int32) else 1), .int (G.2.2.2.2 (x4 + (2 : Int32)).toNatClampNeg), .int (G.2.2.2.2 (x4 + (1 : Int32)).toNatClampNeg), .ref x1] h c s := by
    refine aw_aload_n 3 (x := x3) dL_law_352 rfl rfl ?_
    obtain ⟨d2, mc2, ms2, Q, hM, hd9, hc9, hs9, hv, hx⟩ := hv
    refine aw_callSW (rest := []) hM nX0_setTelling q1354 q1355 q118 q1356 dL_law_353 rfl hd9 (by decide) (Nat.le_of_ble_eq_true rfl) hc9 hs9 ?_ ?_
    rotate_left
    · exact fun E h2 q => aX_out (hx E h2 q) rfl hc9 hs9
    intro v9 h38 hq
    have hv := hv v9 h38 hq
    obtain ⟨y37, rfl, hv⟩ := hv
    refine aw_eqv (pc2 := 356) (st2 := [.int y37]) rfl rfl rfl rfl ?_
    revert hv hc9 hs9; generalize c + mc2 = c39; generalize s + ms2 = s40; intro hc9 hs9 hv
    refine aw_istore (lv' := [(5, .int y37), (0, .ref G.2.2.1), (1, .ref x1), (2, .ref x2), (3, .ref x3), (4, .int x4)]) dL_law_356 (Nat.le_of_ble_eq_true rfl) rfl ?_
    refine aw_aload_n 3 (x := x2) dL_law_358 rfl rfl ?_
    refine aw_aload_n 1 (x := G.2.2.1) dL_law_359 rfl rfl ?_
    refine aw_iload 5 dL_law_360 rfl ?_
    refine aw_iconst (v := 1) dL_law_362 (by decide) ?_
    refine aw_iadd dL_law_363 ?_
    obtain ⟨z41, hv⟩ := hv
    refine aw_sld z41 dL_law_364 ?_
    refine aw_aload_n 1 (x := G.2.2.1) dL_law_365 rfl rfl ?_
    refine aw_iload 5 dL_law_366 rfl ?_
    refine aw_iconst (v := 2) dL_law_368 (by decide) ?_
    refine aw_iadd dL_law_369 ?_
    obtain ⟨z42, hv⟩ := hv
    refine aw_sld z42 dL_law_370 ?_
    refine aw_aload_n 1 (x := G.2.2.1) dL_law_371 rfl rfl ?_
    refine aw_iload 5 dL_law_372 rfl ?_
    refine aw_iconst (v := 3) dL_law_374 (by decide) ?_
    refine aw_iadd dL_law_375 ?_
    obtain ⟨z43, hv⟩ := hv
    refine aw_sld z43 dL_law_376 ?_
    have J9 : AW l G mL_law d mc ms P 385 [(5, .int y37), (0, .ref G.2.2.1), (1, .ref x1), (2, .ref x2), (3, .ref x3), (4, .int x4)] [.int (if (G.2.2.2.2 (x4 + (3 : Int32)).toNatClampNeg) = 0 then (0 : Int32) else 1), .int (G.2.2.2.2 (x4 + (2 : Int32)).toNatClampNeg), .int (G.2.2.2.2 (x4 + (1 : Int32)).toNatClampNeg), .ref x2] h38 c39 s40 := by
      obtain ⟨⟨fs, he⟩, hv⟩ := hv
      obtain ⟨d2, mc2, ms2, Q, hM, hd9, hc9, hs9, hv, hx⟩ := hv
      refine aw_callV (rest := []) hM he rfl rfl nX6_setTelling q1841 q1842 q1843 q137 q1844 dL_law_385 rfl hd9 (by decide) (Nat.le_of_ble_eq_true rfl) hc9 hs9 ?_ ?_
      rotate_left
      · exact fun E h2 q => aX_out (hx E h2 q) rfl hc9 hs9
      intro v9 h46 hq
      have hv := hv v9 h46 hq
      obtain ⟨y45, rfl, hv⟩ := hv
      refine aw_eqv (pc2 := 388) (st2 := [.int y45]) rfl rfl rfl rfl ?_
      revert hv hc9 hs9; generalize c39 + mc2 = c47; generalize s40 + ms2 = s48; intro hc9 hs9 hv
      refine aw_istore (lv' := [(6, .int y45), (5, .int y37), (0, .ref G.2.2.1), (1, .ref x1), (2, .ref x2), (3, .ref x3), (4, .int x4)]) dL_law_388 (Nat.le_of_ble_eq_true rfl) rfl ?_
      refine aw_aload_n 4 (x := x2) dL_law_390 rfl rfl ?_
      obtain ⟨⟨fs, he⟩, hv⟩ := hv
      obtain ⟨d2, mc2, ms2, Q, hM, hd9, hc9, hs9, hv, hx⟩ := hv
      refine aw_callV (rest := []) hM he rfl rfl nX6_thrown q1814 q1815 q1816 q137 q1817 dL_law_391 rfl hd9 (by decide) (Nat.le_of_ble_eq_true rfl) hc9 hs9 ?_ ?_
      rotate_left
      · exact fun E h2 q => aX_out (hx E h2 q) rfl hc9 hs9
      intro v9 h50 hq
      have hv := hv v9 h50 hq
      obtain ⟨y49, rfl, hv⟩ := hv
      refine aw_eqv (pc2 := 394) (st2 := [.int y49]) rfl rfl rfl rfl ?_
      revert hv hc9 hs9; generalize c47 + mc2 = c51; generalize s48 + ms2 = s52; intro hc9 hs9 hv
      refine aw_iload 1 dL_law_394 rfl ?_
      refine aw_icmp_eq 401 dL_law_396 (by decide) (fun c53 => ?_) (fun c53 => ?_)
      · have hv := hv.1 c53
        refine aw_iload 1 dL_law_401 rfl ?_
        refine aw_if_ne 418 dL_law_403 (by decide) (fun c54 => ?_) (fun c54 => ?_)
        · have hv := hv.1 c54
          refine aw_goto 2161 dL_law_418 (by decide) ?_
          refine aw_sub [2, 3, 4, 5, 6] rfl ?_
          exact hv hc9 hs9
        · have hv := hv.2 c54
          refine aw_aload_n 5 (x := x3) dL_law_406 rfl rfl ?_
          refine aw_iconst (v := 0) dL_law_407 (by decide) ?_
          obtain ⟨n9, f9, he, hin, hv⟩ := hv
          refine aw_lald he hin dL_law_408 ?_
          revert hv; generalize f9 ((0 : Int32)).toNatClampNeg = y55; intro hv
          refine aw_iload 0 dL_law_409 rfl ?_
          refine aw_i2l dL_law_411 ?_
          refine aw_lcmp dL_law_412 ?_
          refine aw_if_eq 418 dL_law_413 (by decide) (fun c56 => ?_) (fun c56 => ?_)
          · have hv := hv.1 c56
            refine aw_goto 2161 dL_law_418 (by decide) ?_
            refine aw_sub [2, 3, 4, 5, 6] rfl ?_
            exact hv hc9 hs9
          · have hv := hv.2 c56
            refine aw_iconst (v := 0) dL_law_416 (by decide) ?_
            exact aw_zret rfl rfl dL_law_417 hv hc9 hs9
      · have hv := hv.2 c53
        refine aw_iconst (v := 0) dL_law_399 (by decide) ?_
        exact aw_zret rfl rfl dL_law_400 hv hc9 hs9
    refine aw_if_eq 384 dL_law_377 (by decide) (fun c44 => ?_) (fun c44 => ?_)
    · have J9 := aw_ifT c44 J9
      refine aw_iconst (v := 0) dL_law_384 (by decide) ?_
      exact J9
    · have J9 := aw_ifF c44 J9
      refine aw_iconst (v := 1) dL_law_380 (by decide) ?_
      refine aw_goto 385 dL_law_381 (by decide) ?_
      exact J9
  refine aw_if_eq 351 dL_law_344 (by decide) (fun c36 => ?_) (fun c36 => ?_)
  · have J9 := aw_ifT c36 J9
    refine aw_iconst (v := 0) dL_law_351 (by decide) ?_
    exact J9
  · have J9 := aw_ifF c36 J9
    refine aw_iconst (v := 1) dL_law_347 (by decide) ?_
    refine aw_goto 352 dL_law_348 (by decide) ?_
    exact J9
def V_L_law_421 (l : Launch) (G : aG) (d mc ms : Nat) (P : aR → aH → Prop) (x1 : Nat) (x2 : Nat) (x3 : Nat) (x4 : Int32) (h : aH) (c s : Nat) : Prop :=
  vp_in (x4 + (1 : Int32)) G.2.2.2.1 ∧
  vC l G mX0_clearTelling (wsX mX0_clearTelling) d mc ms [.ref x1, .int (G.2.2.2.2 (x4 + (1 : Int32)).toNatClampNeg), .ref x3] h c s (xP P) (kI fun y58 h59 c60 s61 => 
  vp_in (x4 + (1 : Int32)) G.2.2.2.1 ∧
  vIs h59 x2 0 (
  vC l G mX6_clearTelling (wsN mX6_clearTelling) d mc ms [.ref x2, .int (G.2.2.2.2 (x4 + (1 : Int32)).toNatClampNeg)] h59 c60 s61 (xP P) (kI fun y63 h64 c65 s66 => 
  vIs h64 x2 0 (
  vC l G mX6_thrown (wsN mX6_thrown) d mc ms [.ref x2] h64 c65 s66 (xP P) (kI fun y67 h68 c69 s70 => 
  (y67 = y58 → 
    (¬ y58 = 0 → 
      T_L_law_2161 l G d mc ms P x1 x2 x3 x4 h68 c69 s70
      ) ∧ (y58 = 0 → 
      vAL h68 x3 (0 : Int32) fun y73 =>
      ((lg_cmp y73 y63.toInt64) = 0 → 
        T_L_law_2161 l G d mc ms P x1 x2 x3 x4 h68 c69 s70
        ) ∧ (¬ (lg_cmp y73 y63.toInt64) = 0 → 
        P (.inl (some (.int 0))) h68
        )
      )
    ) ∧ (¬ y67 = y58 → 
    P (.inl (some (.int 0))) h68
    ))))))
set_option maxHeartbeats 4000000 in
theorem A_L_law_421 {l : Launch} {G : aG} {d mc ms : Nat} {P : aR → aH → Prop} {x1 : Nat} {x2 : Nat} {x3 : Nat} {x4 : Int32} {h : aH} {c s : Nat} (hl : l.stackTraces = false) (hv : V_L_law_421 l G d mc ms P x1 x2 x3 x4 h c s) : T_L_law_421 l G d mc ms P x1 x2 x3 x4 h c s := by
  intro hc hs
  unfold V_L_law_421 at hv
  refine aw_aload_n 1 (x := x1) dL_law_421 rfl rfl ?_
  refine aw_aload_n 0 (x := G.2.2.1) dL_law_422 rfl rfl ?_
  refine aw_iload 4 dL_law_423 rfl ?_
  refine aw_iconst (v := 1) dL_law_425 (by decide) ?_
  refine aw_iadd dL_law_426 ?_
  obtain ⟨z57, hv⟩ := hv
  refine aw_sld z57 dL_law_427 ?_
  refine aw_aload_n 3 (x := x3) dL_law_428 rfl rfl ?_
  obtain ⟨d2, mc2, ms2, Q, hM, hd9, hc9, hs9, hv, hx⟩ := hv
  refine aw_callSW (rest := []) hM nX0_clearTelling q1394 q1395 q118 q1396 dL_law_429 rfl hd9 (by decide) (Nat.le_of_ble_eq_true rfl) hc9 hs9 ?_ ?_
  rotate_left
  · exact fun E h2 q => aX_out (hx E h2 q) rfl hc9 hs9
  intro v9 h59 hq
  have hv := hv v9 h59 hq
  obtain ⟨y58, rfl, hv⟩ := hv
  refine aw_eqv (pc2 := 432) (st2 := [.int y58]) rfl rfl rfl rfl ?_
  revert hv hc9 hs9; generalize c + mc2 = c60; generalize s + ms2 = s61; intro hc9 hs9 hv
  refine aw_istore (lv' := [(5, .int y58), (0, .ref G.2.2.1), (1, .ref x1), (2, .ref x2), (3, .ref x3), (4, .int x4)]) dL_law_432 (Nat.le_of_ble_eq_true rfl) rfl ?_
  refine aw_aload_n 3 (x := x2) dL_law_434 rfl rfl ?_
  refine aw_aload_n 1 (x := G.2.2.1) dL_law_435 rfl rfl ?_
  refine aw_iload 5 dL_law_436 rfl ?_
  refine aw_iconst (v := 1) dL_law_438 (by decide) ?_
  refine aw_iadd dL_law_439 ?_
  obtain ⟨z62, hv⟩ := hv
  refine aw_sld z62 dL_law_440 ?_
  obtain ⟨⟨fs, he⟩, hv⟩ := hv
  obtain ⟨d2, mc2, ms2, Q, hM, hd9, hc9, hs9, hv, hx⟩ := hv
  refine aw_callV (rest := []) hM he rfl rfl nX6_clearTelling q1868 q1869 q1870 q137 q1871 dL_law_441 rfl hd9 (by decide) (Nat.le_of_ble_eq_true rfl) hc9 hs9 ?_ ?_
  rotate_left
  · exact fun E h2 q => aX_out (hx E h2 q) rfl hc9 hs9
  intro v9 h64 hq
  have hv := hv v9 h64 hq
  obtain ⟨y63, rfl, hv⟩ := hv
  refine aw_eqv (pc2 := 444) (st2 := [.int y63]) rfl rfl rfl rfl ?_
  revert hv hc9 hs9; generalize c60 + mc2 = c65; generalize s61 + ms2 = s66; intro hc9 hs9 hv
  refine aw_istore (lv' := [(6, .int y63), (5, .int y58), (0, .ref G.2.2.1), (1, .ref x1), (2, .ref x2), (3, .ref x3), (4, .int x4)]) dL_law_444 (Nat.le_of_ble_eq_true rfl) rfl ?_
  refine aw_aload_n 4 (x := x2) dL_law_446 rfl rfl ?_
  obtain ⟨⟨fs, he⟩, hv⟩ := hv
  obtain ⟨d2, mc2, ms2, Q, hM, hd9, hc9, hs9, hv, hx⟩ := hv
  refine aw_callV (rest := []) hM he rfl rfl nX6_thrown q1814 q1815 q1816 q137 q1817 dL_law_447 rfl hd9 (by decide) (Nat.le_of_ble_eq_true rfl) hc9 hs9 ?_ ?_
  rotate_left
  · exact fun E h2 q => aX_out (hx E h2 q) rfl hc9 hs9
  intro v9 h68 hq
  have hv := hv v9 h68 hq
  obtain ⟨y67, rfl, hv⟩ := hv
  refine aw_eqv (pc2 := 450) (st2 := [.int y67]) rfl rfl rfl rfl ?_
  revert hv hc9 hs9; generalize c65 + mc2 = c69; generalize s66 + ms2 = s70; intro hc9 hs9 hv
  refine aw_iload 1 dL_law_450 rfl ?_
  refine aw_icmp_eq 457 dL_law_452 (by decide) (fun c71 => ?_) (fun c71 => ?_)
  · have hv := hv.1 c71
    refine aw_iload 1 dL_law_457 rfl ?_
    refine aw_if_ne 474 dL_law_459 (by decide) (fun c72 => ?_) (fun c72 => ?_)
    · have hv := hv.1 c72
      refine aw_goto 2161 dL_law_474 (by decide) ?_
      refine aw_sub [2, 3, 4, 5, 6] rfl ?_
      exact hv hc9 hs9
    · have hv := hv.2 c72
      refine aw_aload_n 5 (x := x3) dL_law_462 rfl rfl ?_
      refine aw_iconst (v := 0) dL_law_463 (by decide) ?_
      obtain ⟨n9, f9, he, hin, hv⟩ := hv
      refine aw_lald he hin dL_law_464 ?_
      revert hv; generalize f9 ((0 : Int32)).toNatClampNeg = y73; intro hv
      refine aw_iload 0 dL_law_465 rfl ?_
      refine aw_i2l dL_law_467 ?_
      refine aw_lcmp dL_law_468 ?_
      refine aw_if_eq 474 dL_law_469 (by decide) (fun c74 => ?_) (fun c74 => ?_)
      · have hv := hv.1 c74
        refine aw_goto 2161 dL_law_474 (by decide) ?_
        refine aw_sub [2, 3, 4, 5, 6] rfl ?_
        exact hv hc9 hs9
      · have hv := hv.2 c74
        refine aw_iconst (v := 0) dL_law_472 (by decide) ?_
        exact aw_zret rfl rfl dL_law_473 hv hc9 hs9
  · have hv := hv.2 c71
    refine aw_iconst (v := 0) dL_law_455 (by decide) ?_
    exact aw_zret rfl rfl dL_law_456 hv hc9 hs9
def V_L_law_477 (l : Launch) (G : aG) (d mc ms : Nat) (P : aR → aH → Prop) (x1 : Nat) (x2 : Nat) (x3 : Nat) (x4 : Int32) (h : aH) (c s : Nat) : Prop :=
  vIs h x1 1 (
  vC l G mX1_tellFirsts (wsN mX1_tellFirsts) d mc ms [.ref x1] h c s (xP P) (kI fun y75 h76 c77 s78 => 
  vIs h76 x2 0 (
  vC l G mX6_tellFirsts (wsN mX6_tellFirsts) d mc ms [.ref x2] h76 c77 s78 (xP P) (kI fun y79 h80 c81 s82 => 
  (y75 = y79 → 
    T_L_law_2161 l G d mc ms P x1 x2 x3 x4 h80 c81 s82
    ) ∧ (¬ y75 = y79 → 
    P (.inl (some (.int 0))) h80
    )))))
set_option maxHeartbeats 4000000 in
theorem A_L_law_477 {l : Launch} {G : aG} {d mc ms : Nat} {P : aR → aH → Prop} {x1 : Nat} {x2 : Nat} {x3 : Nat} {x4 : Int32} {h : aH} {c s : Nat} (hl : l.stackTraces = false) (hv : V_L_law_477 l G d mc ms P x1 x2 x3 x4 h c s) : T_L_law_477 l G d mc ms P x1 x2 x3 x4 h c s := by
  intro hc hs
  unfold V_L_law_477 at hv
  refine aw_aload_n 1 (x := x1) dL_law_477 rfl rfl ?_
  obtain ⟨⟨fs, he⟩, hv⟩ := hv
  obtain ⟨d2, mc2, ms2, Q, hM, hd9, hc9, hs9, hv, hx⟩ := hv
  refine aw_callV (rest := []) hM he rfl rfl nX1_tellFirsts q523 q524 q525 q119 q526 dL_law_478 rfl hd9 (by decide) (Nat.le_of_ble_eq_true rfl) hc9 hs9 ?_ ?_
  rotate_left
  · exact fun E h2 q => aX_out (hx E h2 q) rfl hc9 hs9
  intro v9 h76 hq
  have hv := hv v9 h76 hq
  obtain ⟨y75, rfl, hv⟩ := hv
  refine aw_eqv (pc2 := 481) (st2 := [.int y75]) rfl rfl rfl rfl ?_
  revert hv hc9 hs9; generalize c + mc2 = c77; generalize s + ms2 = s78; intro hc9 hs9 hv
  refine aw_aload_n 2 (x := x2) dL_law_481 rfl rfl ?_
  obtain ⟨⟨fs, he⟩, hv⟩ := hv
  obtain ⟨d2, mc2, ms2, Q, hM, hd9, hc9, hs9, hv, hx⟩ := hv
  refine aw_callV (rest := [.int y75]) hM he rfl rfl nX6_tellFirsts q1876 q1877 q1878 q137 q1879 dL_law_482 rfl hd9 (by decide) (Nat.le_of_ble_eq_true rfl) hc9 hs9 ?_ ?_
  rotate_left
  · exact fun E h2 q => aX_out (hx E h2 q) rfl hc9 hs9
  intro v9 h80 hq
  have hv := hv v9 h80 hq
  obtain ⟨y79, rfl, hv⟩ := hv
  refine aw_eqv (pc2 := 485) (st2 := [.int y79, .int y75]) rfl rfl rfl rfl ?_
  revert hv hc9 hs9; generalize c77 + mc2 = c81; generalize s78 + ms2 = s82; intro hc9 hs9 hv
  refine aw_icmp_eq 2161 dL_law_485 (by decide) (fun c83 => ?_) (fun c83 => ?_)
  · have hv := hv.1 c83
    exact hv hc9 hs9
  · have hv := hv.2 c83
    refine aw_iconst (v := 0) dL_law_488 (by decide) ?_
    exact aw_zret rfl rfl dL_law_489 hv hc9 hs9
def V_L_law_490 (l : Launch) (G : aG) (d mc ms : Nat) (P : aR → aH → Prop) (x1 : Nat) (x2 : Nat) (x3 : Nat) (x4 : Int32) (h : aH) (c s : Nat) : Prop :=
  vp_in (x4 + (1 : Int32)) G.2.2.2.1 ∧
  vp_in (x4 + (2 : Int32)) G.2.2.2.1 ∧
  vC l G mX0_exchange (wsX mX0_exchange) d mc ms [.ref x1, .int (G.2.2.2.2 (x4 + (1 : Int32)).toNatClampNeg), .int (G.2.2.2.2 (x4 + (2 : Int32)).toNatClampNeg), .ref x3] h c s (xP P) (kI fun y86 h87 c88 s89 => 
  vp_in (x4 + (1 : Int32)) G.2.2.2.1 ∧
  vp_in (x4 + (2 : Int32)) G.2.2.2.1 ∧
  vIs h87 x2 0 (
  vC l G mX6_exchange (wsN mX6_exchange) d mc ms [.ref x2, .int (G.2.2.2.2 (x4 + (1 : Int32)).toNatClampNeg), .int (G.2.2.2.2 (x4 + (2 : Int32)).toNatClampNeg)] h87 c88 s89 (xP P) (kI fun y92 h93 c94 s95 => 
  vIs h93 x2 0 (
  vC l G mX6_thrown (wsN mX6_thrown) d mc ms [.ref x2] h93 c94 s95 (xP P) (kI fun y96 h97 c98 s99 => 
  (y96 = y86 → 
    (¬ y86 = 0 → 
      T_L_law_2161 l G d mc ms P x1 x2 x3 x4 h97 c98 s99
      ) ∧ (y86 = 0 → 
      vAL h97 x3 (0 : Int32) fun y102 =>
      ((lg_cmp y102 y92.toInt64) = 0 → 
        T_L_law_2161 l G d mc ms P x1 x2 x3 x4 h97 c98 s99
        ) ∧ (¬ (lg_cmp y102 y92.toInt64) = 0 → 
        P (.inl (some (.int 0))) h97
        )
      )
    ) ∧ (¬ y96 = y86 → 
    P (.inl (some (.int 0))) h97
    ))))))
set_option maxHeartbeats 4000000 in
theorem A_L_law_490 {l : Launch} {G : aG} {d mc ms : Nat} {P : aR → aH → Prop} {x1 : Nat} {x2 : Nat} {x3 : Nat} {x4 : Int32} {h : aH} {c s : Nat} (hl : l.stackTraces = false) (hv : V_L_law_490 l G d mc ms P x1 x2 x3 x4 h c s) : T_L_law_490 l G d mc ms P x1 x2 x3 x4 h c s := by
  intro hc hs
  unfold V_L_law_490 at hv
  refine aw_aload_n 1 (x := x1) dL_law_490 rfl rfl ?_
  refine aw_aload_n 0 (x := G.2.2.1) dL_law_491 rfl rfl ?_
  refine aw_iload 4 dL_law_492 rfl ?_
  refine aw_iconst (v := 1) dL_law_494 (by decide) ?_
  refine aw_iadd dL_law_495 ?_
  obtain ⟨z84, hv⟩ := hv
  refine aw_sld z84 dL_law_496 ?_
  refine aw_aload_n 0 (x := G.2.2.1) dL_law_497 rfl rfl ?_
  refine aw_iload 4 dL_law_498 rfl ?_
  refine aw_iconst (v := 2) dL_law_500 (by decide) ?_
  refine aw_iadd dL_law_501 ?_
  obtain ⟨z85, hv⟩ := hv
  refine aw_sld z85 dL_law_502 ?_
  refine aw_aload_n 3 (x := x3) dL_law_503 rfl rfl ?_
  obtain ⟨d2, mc2, ms2, Q, hM, hd9, hc9, hs9, hv, hx⟩ := hv
  refine aw_callSW (rest := []) hM nX0_exchange q1424 q1425 q118 q1426 dL_law_504 rfl hd9 (by decide) (Nat.le_of_ble_eq_true rfl) hc9 hs9 ?_ ?_
  rotate_left
  · exact fun E h2 q => aX_out (hx E h2 q) rfl hc9 hs9
  intro v9 h87 hq
  have hv := hv v9 h87 hq
  obtain ⟨y86, rfl, hv⟩ := hv
  refine aw_eqv (pc2 := 507) (st2 := [.int y86]) rfl rfl rfl rfl ?_
  revert hv hc9 hs9; generalize c + mc2 = c88; generalize s + ms2 = s89; intro hc9 hs9 hv
  refine aw_istore (lv' := [(5, .int y86), (0, .ref G.2.2.1), (1, .ref x1), (2, .ref x2), (3, .ref x3), (4, .int x4)]) dL_law_507 (Nat.le_of_ble_eq_true rfl) rfl ?_
  refine aw_aload_n 3 (x := x2) dL_law_509 rfl rfl ?_
  refine aw_aload_n 1 (x := G.2.2.1) dL_law_510 rfl rfl ?_
  refine aw_iload 5 dL_law_511 rfl ?_
  refine aw_iconst (v := 1) dL_law_513 (by decide) ?_
  refine aw_iadd dL_law_514 ?_
  obtain ⟨z90, hv⟩ := hv
  refine aw_sld z90 dL_law_515 ?_
  refine aw_aload_n 1 (x := G.2.2.1) dL_law_516 rfl rfl ?_
  refine aw_iload 5 dL_law_517 rfl ?_
  refine aw_iconst (v := 2) dL_law_519 (by decide) ?_
  refine aw_iadd dL_law_520 ?_
  obtain ⟨z91, hv⟩ := hv
  refine aw_sld z91 dL_law_521 ?_
  obtain ⟨⟨fs, he⟩, hv⟩ := hv
  obtain ⟨d2, mc2, ms2, Q, hM, hd9, hc9, hs9, hv, hx⟩ := hv
  refine aw_callV (rest := []) hM he rfl rfl nX6_exchange q1896 q1897 q1898 q137 q1899 dL_law_522 rfl hd9 (by decide) (Nat.le_of_ble_eq_true rfl) hc9 hs9 ?_ ?_
  rotate_left
  · exact fun E h2 q => aX_out (hx E h2 q) rfl hc9 hs9
  intro v9 h93 hq
  have hv := hv v9 h93 hq
  obtain ⟨y92, rfl, hv⟩ := hv
  refine aw_eqv (pc2 := 525) (st2 := [.int y92]) rfl rfl rfl rfl ?_
  revert hv hc9 hs9; generalize c88 + mc2 = c94; generalize s89 + ms2 = s95; intro hc9 hs9 hv
  refine aw_istore (lv' := [(6, .int y92), (5, .int y86), (0, .ref G.2.2.1), (1, .ref x1), (2, .ref x2), (3, .ref x3), (4, .int x4)]) dL_law_525 (Nat.le_of_ble_eq_true rfl) rfl ?_
  refine aw_aload_n 4 (x := x2) dL_law_527 rfl rfl ?_
  obtain ⟨⟨fs, he⟩, hv⟩ := hv
  obtain ⟨d2, mc2, ms2, Q, hM, hd9, hc9, hs9, hv, hx⟩ := hv
  refine aw_callV (rest := []) hM he rfl rfl nX6_thrown q1814 q1815 q1816 q137 q1817 dL_law_528 rfl hd9 (by decide) (Nat.le_of_ble_eq_true rfl) hc9 hs9 ?_ ?_
  rotate_left
  · exact fun E h2 q => aX_out (hx E h2 q) rfl hc9 hs9
  intro v9 h97 hq
  have hv := hv v9 h97 hq
  obtain ⟨y96, rfl, hv⟩ := hv
  refine aw_eqv (pc2 := 531) (st2 := [.int y96]) rfl rfl rfl rfl ?_
  revert hv hc9 hs9; generalize c94 + mc2 = c98; generalize s95 + ms2 = s99; intro hc9 hs9 hv
  refine aw_iload 1 dL_law_531 rfl ?_
  refine aw_icmp_eq 538 dL_law_533 (by decide) (fun c100 => ?_) (fun c100 => ?_)
  · have hv := hv.1 c100
    refine aw_iload 1 dL_law_538 rfl ?_
    refine aw_if_ne 555 dL_law_540 (by decide) (fun c101 => ?_) (fun c101 => ?_)
    · have hv := hv.1 c101
      refine aw_goto 2161 dL_law_555 (by decide) ?_
      refine aw_sub [2, 3, 4, 5, 6] rfl ?_
      exact hv hc9 hs9
    · have hv := hv.2 c101
      refine aw_aload_n 5 (x := x3) dL_law_543 rfl rfl ?_
      refine aw_iconst (v := 0) dL_law_544 (by decide) ?_
      obtain ⟨n9, f9, he, hin, hv⟩ := hv
      refine aw_lald he hin dL_law_545 ?_
      revert hv; generalize f9 ((0 : Int32)).toNatClampNeg = y102; intro hv
      refine aw_iload 0 dL_law_546 rfl ?_
      refine aw_i2l dL_law_548 ?_
      refine aw_lcmp dL_law_549 ?_
      refine aw_if_eq 555 dL_law_550 (by decide) (fun c103 => ?_) (fun c103 => ?_)
      · have hv := hv.1 c103
        refine aw_goto 2161 dL_law_555 (by decide) ?_
        refine aw_sub [2, 3, 4, 5, 6] rfl ?_
        exact hv hc9 hs9
      · have hv := hv.2 c103
        refine aw_iconst (v := 0) dL_law_553 (by decide) ?_
        exact aw_zret rfl rfl dL_law_554 hv hc9 hs9
  · have hv := hv.2 c100
    refine aw_iconst (v := 0) dL_law_536 (by decide) ?_
    exact aw_zret rfl rfl dL_law_537 hv hc9 hs9
def V_L_law_558 (l : Launch) (G : aG) (d mc ms : Nat) (P : aR → aH → Prop) (x1 : Nat) (x2 : Nat) (x3 : Nat) (x4 : Int32) (h : aH) (c s : Nat) : Prop :=
  vIs h x1 1 (
  vC l G mX1_mirror (wsN mX1_mirror) d mc ms [.ref x1] h c s (xP P) (kI fun y104 h105 c106 s107 => 
  vIs h105 x2 0 (
  vC l G mX6_mirror (wsN mX6_mirror) d mc ms [.ref x2] h105 c106 s107 (xP P) (kI fun y108 h109 c110 s111 => 
  (y104 = y108 → 
    T_L_law_2161 l G d mc ms P x1 x2 x3 x4 h109 c110 s111
    ) ∧ (¬ y104 = y108 → 
    P (.inl (some (.int 0))) h109
    )))))
set_option maxHeartbeats 4000000 in
theorem A_L_law_558 {l : Launch} {G : aG} {d mc ms : Nat} {P : aR → aH → Prop} {x1 : Nat} {x2 : Nat} {x3 : Nat} {x4 : Int32} {h : aH} {c s : Nat} (hl : l.stackTraces = false) (hv : V_L_law_558 l G d mc ms P x1 x2 x3 x4 h c s) : T_L_law_558 l G d mc ms P x1 x2 x3 x4 h c s := by
  intro hc hs
  unfold V_L_law_558 at hv
  refine aw_aload_n 1 (x := x1) dL_law_558 rfl rfl ?_
  obtain ⟨⟨fs, he⟩, hv⟩ := hv
  obtain ⟨d2, mc2, ms2, Q, hM, hd9, hc9, hs9, hv, hx⟩ := hv
  refine aw_callV (rest := []) hM he rfl rfl nX1_mirror q567 q568 q569 q119 q570 dL_law_559 rfl hd9 (by decide) (Nat.le_of_ble_eq_true rfl) hc9 hs9 ?_ ?_
  rotate_left
  · exact fun E h2 q => aX_out (hx E h2 q) rfl hc9 hs9
  intro v9 h105 hq
  have hv := hv v9 h105 hq
  obtain ⟨y104, rfl, hv⟩ := hv
  refine aw_eqv (pc2 := 562) (st2 := [.int y104]) rfl rfl rfl rfl ?_
  revert hv hc9 hs9; generalize c + mc2 = c106; generalize s + ms2 = s107; intro hc9 hs9 hv
  refine aw_aload_n 2 (x := x2) dL_law_562 rfl rfl ?_
  obtain ⟨⟨fs, he⟩, hv⟩ := hv
  obtain ⟨d2, mc2, ms2, Q, hM, hd9, hc9, hs9, hv, hx⟩ := hv
  refine aw_callV (rest := [.int y104]) hM he rfl rfl nX6_mirror q1906 q1907 q1908 q137 q1909 dL_law_563 rfl hd9 (by decide) (Nat.le_of_ble_eq_true rfl) hc9 hs9 ?_ ?_
  rotate_left
  · exact fun E h2 q => aX_out (hx E h2 q) rfl hc9 hs9
  intro v9 h109 hq
  have hv := hv v9 h109 hq
  obtain ⟨y108, rfl, hv⟩ := hv
  refine aw_eqv (pc2 := 566) (st2 := [.int y108, .int y104]) rfl rfl rfl rfl ?_
  revert hv hc9 hs9; generalize c106 + mc2 = c110; generalize s107 + ms2 = s111; intro hc9 hs9 hv
  refine aw_icmp_eq 2161 dL_law_566 (by decide) (fun c112 => ?_) (fun c112 => ?_)
  · have hv := hv.1 c112
    exact hv hc9 hs9
  · have hv := hv.2 c112
    refine aw_iconst (v := 0) dL_law_569 (by decide) ?_
    exact aw_zret rfl rfl dL_law_570 hv hc9 hs9
def V_L_law_571 (l : Launch) (G : aG) (d mc ms : Nat) (P : aR → aH → Prop) (x1 : Nat) (x2 : Nat) (x3 : Nat) (x4 : Int32) (h : aH) (c s : Nat) : Prop :=
  vIs h x1 1 (
  vC l G mX1_side (wsN mX1_side) d mc ms [.ref x1] h c s (xP P) (kI fun y113 h114 c115 s116 => 
  vIs h114 x2 0 (
  vC l G mX6_side (wsN mX6_side) d mc ms [.ref x2] h114 c115 s116 (xP P) (kI fun y117 h118 c119 s120 => 
  (y113 = y117 → 
    T_L_law_2161 l G d mc ms P x1 x2 x3 x4 h118 c119 s120
    ) ∧ (¬ y113 = y117 → 
    P (.inl (some (.int 0))) h118
    )))))
set_option maxHeartbeats 4000000 in
theorem A_L_law_571 {l : Launch} {G : aG} {d mc ms : Nat} {P : aR → aH → Prop} {x1 : Nat} {x2 : Nat} {x3 : Nat} {x4 : Int32} {h : aH} {c s : Nat} (hl : l.stackTraces = false) (hv : V_L_law_571 l G d mc ms P x1 x2 x3 x4 h c s) : T_L_law_571 l G d mc ms P x1 x2 x3 x4 h c s := by
  intro hc hs
  unfold V_L_law_571 at hv
  refine aw_aload_n 1 (x := x1) dL_law_571 rfl rfl ?_
  obtain ⟨⟨fs, he⟩, hv⟩ := hv
  obtain ⟨d2, mc2, ms2, Q, hM, hd9, hc9, hs9, hv, hx⟩ := hv
  refine aw_callV (rest := []) hM he rfl rfl nX1_side q583 q584 q585 q119 q586 dL_law_572 rfl hd9 (by decide) (Nat.le_of_ble_eq_true rfl) hc9 hs9 ?_ ?_
  rotate_left
  · exact fun E h2 q => aX_out (hx E h2 q) rfl hc9 hs9
  intro v9 h114 hq
  have hv := hv v9 h114 hq
  obtain ⟨y113, rfl, hv⟩ := hv
  refine aw_eqv (pc2 := 575) (st2 := [.int y113]) rfl rfl rfl rfl ?_
  revert hv hc9 hs9; generalize c + mc2 = c115; generalize s + ms2 = s116; intro hc9 hs9 hv
  refine aw_aload_n 2 (x := x2) dL_law_575 rfl rfl ?_
  obtain ⟨⟨fs, he⟩, hv⟩ := hv
  obtain ⟨d2, mc2, ms2, Q, hM, hd9, hc9, hs9, hv, hx⟩ := hv
  refine aw_callV (rest := [.int y113]) hM he rfl rfl nX6_side q1914 q1915 q1916 q137 q1917 dL_law_576 rfl hd9 (by decide) (Nat.le_of_ble_eq_true rfl) hc9 hs9 ?_ ?_
  rotate_left
  · exact fun E h2 q => aX_out (hx E h2 q) rfl hc9 hs9
  intro v9 h118 hq
  have hv := hv v9 h118 hq
  obtain ⟨y117, rfl, hv⟩ := hv
  refine aw_eqv (pc2 := 579) (st2 := [.int y117, .int y113]) rfl rfl rfl rfl ?_
  revert hv hc9 hs9; generalize c115 + mc2 = c119; generalize s116 + ms2 = s120; intro hc9 hs9 hv
  refine aw_icmp_eq 2161 dL_law_579 (by decide) (fun c121 => ?_) (fun c121 => ?_)
  · have hv := hv.1 c121
    exact hv hc9 hs9
  · have hv := hv.2 c121
    refine aw_iconst (v := 0) dL_law_582 (by decide) ?_
    exact aw_zret rfl rfl dL_law_583 hv hc9 hs9
def V_L_law_584 (l : Launch) (G : aG) (d mc ms : Nat) (P : aR → aH → Prop) (x1 : Nat) (x2 : Nat) (x3 : Nat) (x4 : Int32) (h : aH) (c s : Nat) : Prop :=
  vIs h x1 1 (
  vC l G mX1_letterCount (wsN mX1_letterCount) d mc ms [.ref x1] h c s (xP P) (kI fun y122 h123 c124 s125 => 
  vIs h123 x2 0 (
  vC l G mX6_letterCount (wsN mX6_letterCount) d mc ms [.ref x2] h123 c124 s125 (xP P) (kI fun y126 h127 c128 s129 => 
  (y122 = y126 → 
    T_L_law_2161 l G d mc ms P x1 x2 x3 x4 h127 c128 s129
    ) ∧ (¬ y122 = y126 → 
    P (.inl (some (.int 0))) h127
    )))))
set_option maxHeartbeats 4000000 in
theorem A_L_law_584 {l : Launch} {G : aG} {d mc ms : Nat} {P : aR → aH → Prop} {x1 : Nat} {x2 : Nat} {x3 : Nat} {x4 : Int32} {h : aH} {c s : Nat} (hl : l.stackTraces = false) (hv : V_L_law_584 l G d mc ms P x1 x2 x3 x4 h c s) : T_L_law_584 l G d mc ms P x1 x2 x3 x4 h c s := by
  intro hc hs
  unfold V_L_law_584 at hv
  refine aw_aload_n 1 (x := x1) dL_law_584 rfl rfl ?_
  obtain ⟨⟨fs, he⟩, hv⟩ := hv
  obtain ⟨d2, mc2, ms2, Q, hM, hd9, hc9, hs9, hv, hx⟩ := hv
  refine aw_callV (rest := []) hM he rfl rfl nX1_letterCount q587 q588 q589 q119 q590 dL_law_585 rfl hd9 (by decide) (Nat.le_of_ble_eq_true rfl) hc9 hs9 ?_ ?_
  rotate_left
  · exact fun E h2 q => aX_out (hx E h2 q) rfl hc9 hs9
  intro v9 h123 hq
  have hv := hv v9 h123 hq
  obtain ⟨y122, rfl, hv⟩ := hv
  refine aw_eqv (pc2 := 588) (st2 := [.int y122]) rfl rfl rfl rfl ?_
  revert hv hc9 hs9; generalize c + mc2 = c124; generalize s + ms2 = s125; intro hc9 hs9 hv
  refine aw_aload_n 2 (x := x2) dL_law_588 rfl rfl ?_
  obtain ⟨⟨fs, he⟩, hv⟩ := hv
  obtain ⟨d2, mc2, ms2, Q, hM, hd9, hc9, hs9, hv, hx⟩ := hv
  refine aw_callV (rest := [.int y122]) hM he rfl rfl nX6_letterCount q1922 q1923 q1924 q137 q1925 dL_law_589 rfl hd9 (by decide) (Nat.le_of_ble_eq_true rfl) hc9 hs9 ?_ ?_
  rotate_left
  · exact fun E h2 q => aX_out (hx E h2 q) rfl hc9 hs9
  intro v9 h127 hq
  have hv := hv v9 h127 hq
  obtain ⟨y126, rfl, hv⟩ := hv
  refine aw_eqv (pc2 := 592) (st2 := [.int y126, .int y122]) rfl rfl rfl rfl ?_
  revert hv hc9 hs9; generalize c124 + mc2 = c128; generalize s125 + ms2 = s129; intro hc9 hs9 hv
  refine aw_icmp_eq 2161 dL_law_592 (by decide) (fun c130 => ?_) (fun c130 => ?_)
  · have hv := hv.1 c130
    exact hv hc9 hs9
  · have hv := hv.2 c130
    refine aw_iconst (v := 0) dL_law_595 (by decide) ?_
    exact aw_zret rfl rfl dL_law_596 hv hc9 hs9
def V_L_law_597 (l : Launch) (G : aG) (d mc ms : Nat) (P : aR → aH → Prop) (x1 : Nat) (x2 : Nat) (x3 : Nat) (x4 : Int32) (h : aH) (c s : Nat) : Prop :=
  vIs h x1 1 (
  vC l G mX1_lineCount (wsN mX1_lineCount) d mc ms [.ref x1] h c s (xP P) (kI fun y131 h132 c133 s134 => 
  vIs h132 x2 0 (
  vC l G mX6_lineCount (wsN mX6_lineCount) d mc ms [.ref x2] h132 c133 s134 (xP P) (kI fun y135 h136 c137 s138 => 
  (y131 = y135 → 
    T_L_law_2161 l G d mc ms P x1 x2 x3 x4 h136 c137 s138
    ) ∧ (¬ y131 = y135 → 
    P (.inl (some (.int 0))) h136
    )))))
set_option maxHeartbeats 4000000 in
theorem A_L_law_597 {l : Launch} {G : aG} {d mc ms : Nat} {P : aR → aH → Prop} {x1 : Nat} {x2 : Nat} {x3 : Nat} {x4 : Int32} {h : aH} {c s : Nat} (hl : l.stackTraces = false) (hv : V_L_law_597 l G d mc ms P x1 x2 x3 x4 h c s) : T_L_law_597 l G d mc ms P x1 x2 x3 x4 h c s := by
  intro hc hs
  unfold V_L_law_597 at hv
  refine aw_aload_n 1 (x := x1) dL_law_597 rfl rfl ?_
  obtain ⟨⟨fs, he⟩, hv⟩ := hv
  obtain ⟨d2, mc2, ms2, Q, hM, hd9, hc9, hs9, hv, hx⟩ := hv
  refine aw_callV (rest := []) hM he rfl rfl nX1_lineCount q591 q592 q593 q119 q594 dL_law_598 rfl hd9 (by decide) (Nat.le_of_ble_eq_true rfl) hc9 hs9 ?_ ?_
  rotate_left
  · exact fun E h2 q => aX_out (hx E h2 q) rfl hc9 hs9
  intro v9 h132 hq
  have hv := hv v9 h132 hq
  obtain ⟨y131, rfl, hv⟩ := hv
  refine aw_eqv (pc2 := 601) (st2 := [.int y131]) rfl rfl rfl rfl ?_
  revert hv hc9 hs9; generalize c + mc2 = c133; generalize s + ms2 = s134; intro hc9 hs9 hv
  refine aw_aload_n 2 (x := x2) dL_law_601 rfl rfl ?_
  obtain ⟨⟨fs, he⟩, hv⟩ := hv
  obtain ⟨d2, mc2, ms2, Q, hM, hd9, hc9, hs9, hv, hx⟩ := hv
  refine aw_callV (rest := [.int y131]) hM he rfl rfl nX6_lineCount q1926 q1927 q1928 q137 q1929 dL_law_602 rfl hd9 (by decide) (Nat.le_of_ble_eq_true rfl) hc9 hs9 ?_ ?_
  rotate_left
  · exact fun E h2 q => aX_out (hx E h2 q) rfl hc9 hs9
  intro v9 h136 hq
  have hv := hv v9 h136 hq
  obtain ⟨y135, rfl, hv⟩ := hv
  refine aw_eqv (pc2 := 605) (st2 := [.int y135, .int y131]) rfl rfl rfl rfl ?_
  revert hv hc9 hs9; generalize c133 + mc2 = c137; generalize s134 + ms2 = s138; intro hc9 hs9 hv
  refine aw_icmp_eq 2161 dL_law_605 (by decide) (fun c139 => ?_) (fun c139 => ?_)
  · have hv := hv.1 c139
    exact hv hc9 hs9
  · have hv := hv.2 c139
    refine aw_iconst (v := 0) dL_law_608 (by decide) ?_
    exact aw_zret rfl rfl dL_law_609 hv hc9 hs9
def V_L_law_610 (l : Launch) (G : aG) (d mc ms : Nat) (P : aR → aH → Prop) (x1 : Nat) (x2 : Nat) (x3 : Nat) (x4 : Int32) (h : aH) (c s : Nat) : Prop :=
  vIs h x1 1 (
  vC l G mX1_tellingCount (wsN mX1_tellingCount) d mc ms [.ref x1] h c s (xP P) (kI fun y140 h141 c142 s143 => 
  vIs h141 x2 0 (
  vC l G mX6_tellingCount (wsN mX6_tellingCount) d mc ms [.ref x2] h141 c142 s143 (xP P) (kI fun y144 h145 c146 s147 => 
  (y140 = y144 → 
    T_L_law_2161 l G d mc ms P x1 x2 x3 x4 h145 c146 s147
    ) ∧ (¬ y140 = y144 → 
    P (.inl (some (.int 0))) h145
    )))))
set_option maxHeartbeats 4000000 in
theorem A_L_law_610 {l : Launch} {G : aG} {d mc ms : Nat} {P : aR → aH → Prop} {x1 : Nat} {x2 : Nat} {x3 : Nat} {x4 : Int32} {h : aH} {c s : Nat} (hl : l.stackTraces = false) (hv : V_L_law_610 l G d mc ms P x1 x2 x3 x4 h c s) : T_L_law_610 l G d mc ms P x1 x2 x3 x4 h c s := by
  intro hc hs
  unfold V_L_law_610 at hv
  refine aw_aload_n 1 (x := x1) dL_law_610 rfl rfl ?_
  obtain ⟨⟨fs, he⟩, hv⟩ := hv
  obtain ⟨d2, mc2, ms2, Q, hM, hd9, hc9, hs9, hv, hx⟩ := hv
  refine aw_callV (rest := []) hM he rfl rfl nX1_tellingCount q596 q597 q598 q119 q599 dL_law_611 rfl hd9 (by decide) (Nat.le_of_ble_eq_true rfl) hc9 hs9 ?_ ?_
  rotate_left
  · exact fun E h2 q => aX_out (hx E h2 q) rfl hc9 hs9
  intro v9 h141 hq
  have hv := hv v9 h141 hq
  obtain ⟨y140, rfl, hv⟩ := hv
  refine aw_eqv (pc2 := 614) (st2 := [.int y140]) rfl rfl rfl rfl ?_
  revert hv hc9 hs9; generalize c + mc2 = c142; generalize s + ms2 = s143; intro hc9 hs9 hv
  refine aw_aload_n 2 (x := x2) dL_law_614 rfl rfl ?_
  obtain ⟨⟨fs, he⟩, hv⟩ := hv
  obtain ⟨d2, mc2, ms2, Q, hM, hd9, hc9, hs9, hv, hx⟩ := hv
  refine aw_callV (rest := [.int y140]) hM he rfl rfl nX6_tellingCount q1934 q1935 q1936 q137 q1937 dL_law_615 rfl hd9 (by decide) (Nat.le_of_ble_eq_true rfl) hc9 hs9 ?_ ?_
  rotate_left
  · exact fun E h2 q => aX_out (hx E h2 q) rfl hc9 hs9
  intro v9 h145 hq
  have hv := hv v9 h145 hq
  obtain ⟨y144, rfl, hv⟩ := hv
  refine aw_eqv (pc2 := 618) (st2 := [.int y144, .int y140]) rfl rfl rfl rfl ?_
  revert hv hc9 hs9; generalize c142 + mc2 = c146; generalize s143 + ms2 = s147; intro hc9 hs9 hv
  refine aw_icmp_eq 2161 dL_law_618 (by decide) (fun c148 => ?_) (fun c148 => ?_)
  · have hv := hv.1 c148
    exact hv hc9 hs9
  · have hv := hv.2 c148
    refine aw_iconst (v := 0) dL_law_621 (by decide) ?_
    exact aw_zret rfl rfl dL_law_622 hv hc9 hs9
def V_L_law_623 (l : Launch) (G : aG) (d mc ms : Nat) (P : aR → aH → Prop) (x1 : Nat) (x2 : Nat) (x3 : Nat) (x4 : Int32) (h : aH) (c s : Nat) : Prop :=
  vp_in (x4 + (1 : Int32)) G.2.2.2.1 ∧
  vC l G mX0_tellingAt (wsX mX0_tellingAt) d mc ms [.ref x1, .int (G.2.2.2.2 (x4 + (1 : Int32)).toNatClampNeg), .ref x3] h c s (xP P) (kI fun y150 h151 c152 s153 => 
  vp_in (x4 + (1 : Int32)) G.2.2.2.1 ∧
  vIs h151 x2 0 (
  vC l G mX6_tellingAt (wsN mX6_tellingAt) d mc ms [.ref x2, .int (G.2.2.2.2 (x4 + (1 : Int32)).toNatClampNeg)] h151 c152 s153 (xP P) (kI fun y155 h156 c157 s158 => 
  vIs h156 x2 0 (
  vC l G mX6_thrown (wsN mX6_thrown) d mc ms [.ref x2] h156 c157 s158 (xP P) (kI fun y159 h160 c161 s162 => 
  (y159 = y150 → 
    (¬ y150 = 0 → 
      T_L_law_2161 l G d mc ms P x1 x2 x3 x4 h160 c161 s162
      ) ∧ (y150 = 0 → 
      vAL h160 x3 (0 : Int32) fun y165 =>
      ((lg_cmp y165 y155.toInt64) = 0 → 
        T_L_law_2161 l G d mc ms P x1 x2 x3 x4 h160 c161 s162
        ) ∧ (¬ (lg_cmp y165 y155.toInt64) = 0 → 
        P (.inl (some (.int 0))) h160
        )
      )
    ) ∧ (¬ y159 = y150 → 
    P (.inl (some (.int 0))) h160
    ))))))
set_option maxHeartbeats 4000000 in
theorem A_L_law_623 {l : Launch} {G : aG} {d mc ms : Nat} {P : aR → aH → Prop} {x1 : Nat} {x2 : Nat} {x3 : Nat} {x4 : Int32} {h : aH} {c s : Nat} (hl : l.stackTraces = false) (hv : V_L_law_623 l G d mc ms P x1 x2 x3 x4 h c s) : T_L_law_623 l G d mc ms P x1 x2 x3 x4 h c s := by
  intro hc hs
  unfold V_L_law_623 at hv
  refine aw_aload_n 1 (x := x1) dL_law_623 rfl rfl ?_
  refine aw_aload_n 0 (x := G.2.2.1) dL_law_624 rfl rfl ?_
  refine aw_iload 4 dL_law_625 rfl ?_
  refine aw_iconst (v := 1) dL_law_627 (by decide) ?_
  refine aw_iadd dL_law_628 ?_
  obtain ⟨z149, hv⟩ := hv
  refine aw_sld z149 dL_law_629 ?_
  refine aw_aload_n 3 (x := x3) dL_law_630 rfl rfl ?_
  obtain ⟨d2, mc2, ms2, Q, hM, hd9, hc9, hs9, hv, hx⟩ := hv
  refine aw_callSW (rest := []) hM nX0_tellingAt q1439 q1440 q118 q1441 dL_law_631 rfl hd9 (by decide) (Nat.le_of_ble_eq_true rfl) hc9 hs9 ?_ ?_
  rotate_left
  · exact fun E h2 q => aX_out (hx E h2 q) rfl hc9 hs9
  intro v9 h151 hq
  have hv := hv v9 h151 hq
  obtain ⟨y150, rfl, hv⟩ := hv
  refine aw_eqv (pc2 := 634) (st2 := [.int y150]) rfl rfl rfl rfl ?_
  revert hv hc9 hs9; generalize c + mc2 = c152; generalize s + ms2 = s153; intro hc9 hs9 hv
  refine aw_istore (lv' := [(5, .int y150), (0, .ref G.2.2.1), (1, .ref x1), (2, .ref x2), (3, .ref x3), (4, .int x4)]) dL_law_634 (Nat.le_of_ble_eq_true rfl) rfl ?_
  refine aw_aload_n 3 (x := x2) dL_law_636 rfl rfl ?_
  refine aw_aload_n 1 (x := G.2.2.1) dL_law_637 rfl rfl ?_
  refine aw_iload 5 dL_law_638 rfl ?_
  refine aw_iconst (v := 1) dL_law_640 (by decide) ?_
  refine aw_iadd dL_law_641 ?_
  obtain ⟨z154, hv⟩ := hv
  refine aw_sld z154 dL_law_642 ?_
  obtain ⟨⟨fs, he⟩, hv⟩ := hv
  obtain ⟨d2, mc2, ms2, Q, hM, hd9, hc9, hs9, hv, hx⟩ := hv
  refine aw_callV (rest := []) hM he rfl rfl nX6_tellingAt q1938 q1939 q1940 q137 q1941 dL_law_643 rfl hd9 (by decide) (Nat.le_of_ble_eq_true rfl) hc9 hs9 ?_ ?_
  rotate_left
  · exact fun E h2 q => aX_out (hx E h2 q) rfl hc9 hs9
  intro v9 h156 hq
  have hv := hv v9 h156 hq
  obtain ⟨y155, rfl, hv⟩ := hv
  refine aw_eqv (pc2 := 646) (st2 := [.int y155]) rfl rfl rfl rfl ?_
  revert hv hc9 hs9; generalize c152 + mc2 = c157; generalize s153 + ms2 = s158; intro hc9 hs9 hv
  refine aw_istore (lv' := [(6, .int y155), (5, .int y150), (0, .ref G.2.2.1), (1, .ref x1), (2, .ref x2), (3, .ref x3), (4, .int x4)]) dL_law_646 (Nat.le_of_ble_eq_true rfl) rfl ?_
  refine aw_aload_n 4 (x := x2) dL_law_648 rfl rfl ?_
  obtain ⟨⟨fs, he⟩, hv⟩ := hv
  obtain ⟨d2, mc2, ms2, Q, hM, hd9, hc9, hs9, hv, hx⟩ := hv
  refine aw_callV (rest := []) hM he rfl rfl nX6_thrown q1814 q1815 q1816 q137 q1817 dL_law_649 rfl hd9 (by decide) (Nat.le_of_ble_eq_true rfl) hc9 hs9 ?_ ?_
  rotate_left
  · exact fun E h2 q => aX_out (hx E h2 q) rfl hc9 hs9
  intro v9 h160 hq
  have hv := hv v9 h160 hq
  obtain ⟨y159, rfl, hv⟩ := hv
  refine aw_eqv (pc2 := 652) (st2 := [.int y159]) rfl rfl rfl rfl ?_
  revert hv hc9 hs9; generalize c157 + mc2 = c161; generalize s158 + ms2 = s162; intro hc9 hs9 hv
  refine aw_iload 1 dL_law_652 rfl ?_
  refine aw_icmp_eq 659 dL_law_654 (by decide) (fun c163 => ?_) (fun c163 => ?_)
  · have hv := hv.1 c163
    refine aw_iload 1 dL_law_659 rfl ?_
    refine aw_if_ne 676 dL_law_661 (by decide) (fun c164 => ?_) (fun c164 => ?_)
    · have hv := hv.1 c164
      refine aw_goto 2161 dL_law_676 (by decide) ?_
      refine aw_sub [2, 3, 4, 5, 6] rfl ?_
      exact hv hc9 hs9
    · have hv := hv.2 c164
      refine aw_aload_n 5 (x := x3) dL_law_664 rfl rfl ?_
      refine aw_iconst (v := 0) dL_law_665 (by decide) ?_
      obtain ⟨n9, f9, he, hin, hv⟩ := hv
      refine aw_lald he hin dL_law_666 ?_
      revert hv; generalize f9 ((0 : Int32)).toNatClampNeg = y165; intro hv
      refine aw_iload 0 dL_law_667 rfl ?_
      refine aw_i2l dL_law_669 ?_
      refine aw_lcmp dL_law_670 ?_
      refine aw_if_eq 676 dL_law_671 (by decide) (fun c166 => ?_) (fun c166 => ?_)
      · have hv := hv.1 c166
        refine aw_goto 2161 dL_law_676 (by decide) ?_
        refine aw_sub [2, 3, 4, 5, 6] rfl ?_
        exact hv hc9 hs9
      · have hv := hv.2 c166
        refine aw_iconst (v := 0) dL_law_674 (by decide) ?_
        exact aw_zret rfl rfl dL_law_675 hv hc9 hs9
  · have hv := hv.2 c163
    refine aw_iconst (v := 0) dL_law_657 (by decide) ?_
    exact aw_zret rfl rfl dL_law_658 hv hc9 hs9
def V_L_law_679 (l : Launch) (G : aG) (d mc ms : Nat) (P : aR → aH → Prop) (x1 : Nat) (x2 : Nat) (x3 : Nat) (x4 : Int32) (h : aH) (c s : Nat) : Prop :=
  vp_in (x4 + (1 : Int32)) G.2.2.2.1 ∧
  vC l G mX0_isSecond (wsX mX0_isSecond) d mc ms [.ref x1, .int (G.2.2.2.2 (x4 + (1 : Int32)).toNatClampNeg), .ref x3] h c s (xP P) (kI fun y168 h169 c170 s171 => 
  vp_in (x4 + (1 : Int32)) G.2.2.2.1 ∧
  vIs h169 x2 0 (
  vC l G mX6_isSecond (wsN mX6_isSecond) d mc ms [.ref x2, .int (G.2.2.2.2 (x4 + (1 : Int32)).toNatClampNeg)] h169 c170 s171 (xP P) (kI fun y173 h174 c175 s176 => 
  vIs h174 x2 0 (
  vC l G mX6_thrown (wsN mX6_thrown) d mc ms [.ref x2] h174 c175 s176 (xP P) (kI fun y177 h178 c179 s180 => 
  (y177 = y168 → 
    (¬ y168 = 0 → 
      T_L_law_2161 l G d mc ms P x1 x2 x3 x4 h178 c179 s180
      ) ∧ (y168 = 0 → 
      vAL h178 x3 (0 : Int32) fun y183 =>
      ((lg_cmp y183 (if y173 = 0 then (0 : Int64) else 1)) = 0 → 
        T_L_law_2161 l G d mc ms P x1 x2 x3 x4 h178 c179 s180
        ) ∧ (¬ (lg_cmp y183 (if y173 = 0 then (0 : Int64) else 1)) = 0 → 
        P (.inl (some (.int 0))) h178
        )
      )
    ) ∧ (¬ y177 = y168 → 
    P (.inl (some (.int 0))) h178
    ))))))
set_option maxHeartbeats 4000000 in
theorem A_L_law_679 {l : Launch} {G : aG} {d mc ms : Nat} {P : aR → aH → Prop} {x1 : Nat} {x2 : Nat} {x3 : Nat} {x4 : Int32} {h : aH} {c s : Nat} (hl : l.stackTraces = false) (hv : V_L_law_679 l G d mc ms P x1 x2 x3 x4 h c s) : T_L_law_679 l G d mc ms P x1 x2 x3 x4 h c s := by
  intro hc hs
  unfold V_L_law_679 at hv
  refine aw_aload_n 1 (x := x1) dL_law_679 rfl rfl ?_
  refine aw_aload_n 0 (x := G.2.2.1) dL_law_680 rfl rfl ?_
  refine aw_iload 4 dL_law_681 rfl ?_
  refine aw_iconst (v := 1) dL_law_683 (by decide) ?_
  refine aw_iadd dL_law_684 ?_
  obtain ⟨z167, hv⟩ := hv
  refine aw_sld z167 dL_law_685 ?_
  refine aw_aload_n 3 (x := x3) dL_law_686 rfl rfl ?_
  obtain ⟨d2, mc2, ms2, Q, hM, hd9, hc9, hs9, hv, hx⟩ := hv
  refine aw_callSW (rest := []) hM nX0_isSecond q1446 q1447 q118 q1448 dL_law_687 rfl hd9 (by decide) (Nat.le_of_ble_eq_true rfl) hc9 hs9 ?_ ?_
  rotate_left
  · exact fun E h2 q => aX_out (hx E h2 q) rfl hc9 hs9
  intro v9 h169 hq
  have hv := hv v9 h169 hq
  obtain ⟨y168, rfl, hv⟩ := hv
  refine aw_eqv (pc2 := 690) (st2 := [.int y168]) rfl rfl rfl rfl ?_
  revert hv hc9 hs9; generalize c + mc2 = c170; generalize s + ms2 = s171; intro hc9 hs9 hv
  refine aw_istore (lv' := [(5, .int y168), (0, .ref G.2.2.1), (1, .ref x1), (2, .ref x2), (3, .ref x3), (4, .int x4)]) dL_law_690 (Nat.le_of_ble_eq_true rfl) rfl ?_
  refine aw_aload_n 3 (x := x2) dL_law_692 rfl rfl ?_
  refine aw_aload_n 1 (x := G.2.2.1) dL_law_693 rfl rfl ?_
  refine aw_iload 5 dL_law_694 rfl ?_
  refine aw_iconst (v := 1) dL_law_696 (by decide) ?_
  refine aw_iadd dL_law_697 ?_
  obtain ⟨z172, hv⟩ := hv
  refine aw_sld z172 dL_law_698 ?_
  obtain ⟨⟨fs, he⟩, hv⟩ := hv
  obtain ⟨d2, mc2, ms2, Q, hM, hd9, hc9, hs9, hv, hx⟩ := hv
  refine aw_callV (rest := []) hM he rfl rfl nX6_isSecond q1942 q1943 q1944 q137 q1945 dL_law_699 rfl hd9 (by decide) (Nat.le_of_ble_eq_true rfl) hc9 hs9 ?_ ?_
  rotate_left
  · exact fun E h2 q => aX_out (hx E h2 q) rfl hc9 hs9
  intro v9 h174 hq
  have hv := hv v9 h174 hq
  obtain ⟨y173, rfl, hv⟩ := hv
  refine aw_eqv (pc2 := 702) (st2 := [.int y173]) rfl rfl rfl rfl ?_
  revert hv hc9 hs9; generalize c170 + mc2 = c175; generalize s171 + ms2 = s176; intro hc9 hs9 hv
  refine aw_istore (lv' := [(6, .int y173), (5, .int y168), (0, .ref G.2.2.1), (1, .ref x1), (2, .ref x2), (3, .ref x3), (4, .int x4)]) dL_law_702 (Nat.le_of_ble_eq_true rfl) rfl ?_
  refine aw_aload_n 4 (x := x2) dL_law_704 rfl rfl ?_
  obtain ⟨⟨fs, he⟩, hv⟩ := hv
  obtain ⟨d2, mc2, ms2, Q, hM, hd9, hc9, hs9, hv, hx⟩ := hv
  refine aw_callV (rest := []) hM he rfl rfl nX6_thrown q1814 q1815 q1816 q137 q1817 dL_law_705 rfl hd9 (by decide) (Nat.le_of_ble_eq_true rfl) hc9 hs9 ?_ ?_
  rotate_left
  · exact fun E h2 q => aX_out (hx E h2 q) rfl hc9 hs9
  intro v9 h178 hq
  have hv := hv v9 h178 hq
  obtain ⟨y177, rfl, hv⟩ := hv
  refine aw_eqv (pc2 := 708) (st2 := [.int y177]) rfl rfl rfl rfl ?_
  revert hv hc9 hs9; generalize c175 + mc2 = c179; generalize s176 + ms2 = s180; intro hc9 hs9 hv
  refine aw_iload 1 dL_law_708 rfl ?_
  refine aw_icmp_eq 715 dL_law_710 (by decide) (fun c181 => ?_) (fun c181 => ?_)
  · have hv := hv.1 c181
    refine aw_iload 1 dL_law_715 rfl ?_
    refine aw_if_ne 739 dL_law_717 (by decide) (fun c182 => ?_) (fun c182 => ?_)
    · have hv := hv.1 c182
      refine aw_goto 2161 dL_law_739 (by decide) ?_
      refine aw_sub [2, 3, 4, 5, 6] rfl ?_
      exact hv hc9 hs9
    · have hv := hv.2 c182
      refine aw_aload_n 5 (x := x3) dL_law_720 rfl rfl ?_
      refine aw_iconst (v := 0) dL_law_721 (by decide) ?_
      obtain ⟨n9, f9, he, hin, hv⟩ := hv
      refine aw_lald he hin dL_law_722 ?_
      revert hv; generalize f9 ((0 : Int32)).toNatClampNeg = y183; intro hv
      refine aw_iload 0 dL_law_723 rfl ?_
      have J9 : AW l G mL_law d mc ms P 733 [(6, .int y173), (5, .int y168), (0, .ref G.2.2.1), (1, .ref x1), (2, .ref x2), (3, .ref x3), (4, .int x4)] [.long (if y173 = 0 then (0 : Int64) else 1), .long y183] h178 c179 s180 := by
        refine aw_lcmp dL_law_733 ?_
        refine aw_if_eq 739 dL_law_734 (by decide) (fun c185 => ?_) (fun c185 => ?_)
        · have hv := hv.1 c185
          refine aw_goto 2161 dL_law_739 (by decide) ?_
          refine aw_sub [2, 3, 4, 5, 6] rfl ?_
          exact hv hc9 hs9
        · have hv := hv.2 c185
          refine aw_iconst (v := 0) dL_law_737 (by decide) ?_
          exact aw_zret rfl rfl dL_law_738 hv hc9 hs9
      refine aw_if_eq 732 dL_law_725 (by decide) (fun c184 => ?_) (fun c184 => ?_)
      · have J9 := aw_ifTL c184 J9
        refine aw_lconst (v := 0) dL_law_732 (by decide) ?_
        exact J9
      · have J9 := aw_ifFL c184 J9
        refine aw_lconst (v := 1) dL_law_728 (by decide) ?_
        refine aw_goto 733 dL_law_729 (by decide) ?_
        exact J9
  · have hv := hv.2 c181
    refine aw_iconst (v := 0) dL_law_713 (by decide) ?_
    exact aw_zret rfl rfl dL_law_714 hv hc9 hs9
def V_L_law_742 (l : Launch) (G : aG) (d mc ms : Nat) (P : aR → aH → Prop) (x1 : Nat) (x2 : Nat) (x3 : Nat) (x4 : Int32) (h : aH) (c s : Nat) : Prop :=
  vp_in (x4 + (1 : Int32)) G.2.2.2.1 ∧
  vp_in (x4 + (2 : Int32)) G.2.2.2.1 ∧
  vC l G mX0_cellOf (wsX mX0_cellOf) d mc ms [.ref x1, .int (G.2.2.2.2 (x4 + (1 : Int32)).toNatClampNeg), .int (G.2.2.2.2 (x4 + (2 : Int32)).toNatClampNeg), .ref x3] h c s (xP P) (kI fun y188 h189 c190 s191 => 
  vp_in (x4 + (1 : Int32)) G.2.2.2.1 ∧
  vp_in (x4 + (2 : Int32)) G.2.2.2.1 ∧
  vIs h189 x2 0 (
  vC l G mX6_cellOf (wsN mX6_cellOf) d mc ms [.ref x2, .int (G.2.2.2.2 (x4 + (1 : Int32)).toNatClampNeg), .int (G.2.2.2.2 (x4 + (2 : Int32)).toNatClampNeg)] h189 c190 s191 (xP P) (kI fun y194 h195 c196 s197 => 
  vIs h195 x2 0 (
  vC l G mX6_thrown (wsN mX6_thrown) d mc ms [.ref x2] h195 c196 s197 (xP P) (kI fun y198 h199 c200 s201 => 
  (y198 = y188 → 
    (¬ y188 = 0 → 
      T_L_law_2161 l G d mc ms P x1 x2 x3 x4 h199 c200 s201
      ) ∧ (y188 = 0 → 
      vAL h199 x3 (0 : Int32) fun y204 =>
      ((lg_cmp y204 y194.toInt64) = 0 → 
        T_L_law_2161 l G d mc ms P x1 x2 x3 x4 h199 c200 s201
        ) ∧ (¬ (lg_cmp y204 y194.toInt64) = 0 → 
        P (.inl (some (.int 0))) h199
        )
      )
    ) ∧ (¬ y198 = y188 → 
    P (.inl (some (.int 0))) h199
    ))))))
set_option maxHeartbeats 4000000 in
theorem A_L_law_742 {l : Launch} {G : aG} {d mc ms : Nat} {P : aR → aH → Prop} {x1 : Nat} {x2 : Nat} {x3 : Nat} {x4 : Int32} {h : aH} {c s : Nat} (hl : l.stackTraces = false) (hv : V_L_law_742 l G d mc ms P x1 x2 x3 x4 h c s) : T_L_law_742 l G d mc ms P x1 x2 x3 x4 h c s := by
  intro hc hs
  unfold V_L_law_742 at hv
  refine aw_aload_n 1 (x := x1) dL_law_742 rfl rfl ?_
  refine aw_aload_n 0 (x := G.2.2.1) dL_law_743 rfl rfl ?_
  refine aw_iload 4 dL_law_744 rfl ?_
  refine aw_iconst (v := 1) dL_law_746 (by decide) ?_
  refine aw_iadd dL_law_747 ?_
  obtain ⟨z186, hv⟩ := hv
  refine aw_sld z186 dL_law_748 ?_
  refine aw_aload_n 0 (x := G.2.2.1) dL_law_749 rfl rfl ?_
  refine aw_iload 4 dL_law_750 rfl ?_
  refine aw_iconst (v := 2) dL_law_752 (by decide) ?_
  refine aw_iadd dL_law_753 ?_
  obtain ⟨z187, hv⟩ := hv
  refine aw_sld z187 dL_law_754 ?_
  refine aw_aload_n 3 (x := x3) dL_law_755 rfl rfl ?_
  obtain ⟨d2, mc2, ms2, Q, hM, hd9, hc9, hs9, hv, hx⟩ := hv
  refine aw_callSW (rest := []) hM nX0_cellOf q1453 q1454 q118 q1455 dL_law_756 rfl hd9 (by decide) (Nat.le_of_ble_eq_true rfl) hc9 hs9 ?_ ?_
  rotate_left
  · exact fun E h2 q => aX_out (hx E h2 q) rfl hc9 hs9
  intro v9 h189 hq
  have hv := hv v9 h189 hq
  obtain ⟨y188, rfl, hv⟩ := hv
  refine aw_eqv (pc2 := 759) (st2 := [.int y188]) rfl rfl rfl rfl ?_
  revert hv hc9 hs9; generalize c + mc2 = c190; generalize s + ms2 = s191; intro hc9 hs9 hv
  refine aw_istore (lv' := [(5, .int y188), (0, .ref G.2.2.1), (1, .ref x1), (2, .ref x2), (3, .ref x3), (4, .int x4)]) dL_law_759 (Nat.le_of_ble_eq_true rfl) rfl ?_
  refine aw_aload_n 3 (x := x2) dL_law_761 rfl rfl ?_
  refine aw_aload_n 1 (x := G.2.2.1) dL_law_762 rfl rfl ?_
  refine aw_iload 5 dL_law_763 rfl ?_
  refine aw_iconst (v := 1) dL_law_765 (by decide) ?_
  refine aw_iadd dL_law_766 ?_
  obtain ⟨z192, hv⟩ := hv
  refine aw_sld z192 dL_law_767 ?_
  refine aw_aload_n 1 (x := G.2.2.1) dL_law_768 rfl rfl ?_
  refine aw_iload 5 dL_law_769 rfl ?_
  refine aw_iconst (v := 2) dL_law_771 (by decide) ?_
  refine aw_iadd dL_law_772 ?_
  obtain ⟨z193, hv⟩ := hv
  refine aw_sld z193 dL_law_773 ?_
  obtain ⟨⟨fs, he⟩, hv⟩ := hv
  obtain ⟨d2, mc2, ms2, Q, hM, hd9, hc9, hs9, hv, hx⟩ := hv
  refine aw_callV (rest := []) hM he rfl rfl nX6_cellOf q1946 q1947 q1948 q137 q1949 dL_law_774 rfl hd9 (by decide) (Nat.le_of_ble_eq_true rfl) hc9 hs9 ?_ ?_
  rotate_left
  · exact fun E h2 q => aX_out (hx E h2 q) rfl hc9 hs9
  intro v9 h195 hq
  have hv := hv v9 h195 hq
  obtain ⟨y194, rfl, hv⟩ := hv
  refine aw_eqv (pc2 := 777) (st2 := [.int y194]) rfl rfl rfl rfl ?_
  revert hv hc9 hs9; generalize c190 + mc2 = c196; generalize s191 + ms2 = s197; intro hc9 hs9 hv
  refine aw_istore (lv' := [(6, .int y194), (5, .int y188), (0, .ref G.2.2.1), (1, .ref x1), (2, .ref x2), (3, .ref x3), (4, .int x4)]) dL_law_777 (Nat.le_of_ble_eq_true rfl) rfl ?_
  refine aw_aload_n 4 (x := x2) dL_law_779 rfl rfl ?_
  obtain ⟨⟨fs, he⟩, hv⟩ := hv
  obtain ⟨d2, mc2, ms2, Q, hM, hd9, hc9, hs9, hv, hx⟩ := hv
  refine aw_callV (rest := []) hM he rfl rfl nX6_thrown q1814 q1815 q1816 q137 q1817 dL_law_780 rfl hd9 (by decide) (Nat.le_of_ble_eq_true rfl) hc9 hs9 ?_ ?_
  rotate_left
  · exact fun E h2 q => aX_out (hx E h2 q) rfl hc9 hs9
  intro v9 h199 hq
  have hv := hv v9 h199 hq
  obtain ⟨y198, rfl, hv⟩ := hv
  refine aw_eqv (pc2 := 783) (st2 := [.int y198]) rfl rfl rfl rfl ?_
  revert hv hc9 hs9; generalize c196 + mc2 = c200; generalize s197 + ms2 = s201; intro hc9 hs9 hv
  refine aw_iload 1 dL_law_783 rfl ?_
  refine aw_icmp_eq 790 dL_law_785 (by decide) (fun c202 => ?_) (fun c202 => ?_)
  · have hv := hv.1 c202
    refine aw_iload 1 dL_law_790 rfl ?_
    refine aw_if_ne 807 dL_law_792 (by decide) (fun c203 => ?_) (fun c203 => ?_)
    · have hv := hv.1 c203
      refine aw_goto 2161 dL_law_807 (by decide) ?_
      refine aw_sub [2, 3, 4, 5, 6] rfl ?_
      exact hv hc9 hs9
    · have hv := hv.2 c203
      refine aw_aload_n 5 (x := x3) dL_law_795 rfl rfl ?_
      refine aw_iconst (v := 0) dL_law_796 (by decide) ?_
      obtain ⟨n9, f9, he, hin, hv⟩ := hv
      refine aw_lald he hin dL_law_797 ?_
      revert hv; generalize f9 ((0 : Int32)).toNatClampNeg = y204; intro hv
      refine aw_iload 0 dL_law_798 rfl ?_
      refine aw_i2l dL_law_800 ?_
      refine aw_lcmp dL_law_801 ?_
      refine aw_if_eq 807 dL_law_802 (by decide) (fun c205 => ?_) (fun c205 => ?_)
      · have hv := hv.1 c205
        refine aw_goto 2161 dL_law_807 (by decide) ?_
        refine aw_sub [2, 3, 4, 5, 6] rfl ?_
        exact hv hc9 hs9
      · have hv := hv.2 c205
        refine aw_iconst (v := 0) dL_law_805 (by decide) ?_
        exact aw_zret rfl rfl dL_law_806 hv hc9 hs9
  · have hv := hv.2 c202
    refine aw_iconst (v := 0) dL_law_788 (by decide) ?_
    exact aw_zret rfl rfl dL_law_789 hv hc9 hs9
def V_L_law_810 (l : Launch) (G : aG) (d mc ms : Nat) (P : aR → aH → Prop) (x1 : Nat) (x2 : Nat) (x3 : Nat) (x4 : Int32) (h : aH) (c s : Nat) : Prop :=
  vp_in (x4 + (1 : Int32)) G.2.2.2.1 ∧
  vp_in (x4 + (2 : Int32)) G.2.2.2.1 ∧
  vC l G mX0_put (wsX mX0_put) d mc ms [.ref x1, .int (G.2.2.2.2 (x4 + (1 : Int32)).toNatClampNeg), .int (G.2.2.2.2 (x4 + (2 : Int32)).toNatClampNeg), .ref x3] h c s (xP P) (kI fun y208 h209 c210 s211 => 
  vp_in (x4 + (1 : Int32)) G.2.2.2.1 ∧
  vp_in (x4 + (2 : Int32)) G.2.2.2.1 ∧
  vIs h209 x2 0 (
  vC l G mX6_put (wsN mX6_put) d mc ms [.ref x2, .int (G.2.2.2.2 (x4 + (1 : Int32)).toNatClampNeg), .int (G.2.2.2.2 (x4 + (2 : Int32)).toNatClampNeg)] h209 c210 s211 (xP P) (kI fun y214 h215 c216 s217 => 
  vIs h215 x2 0 (
  vC l G mX6_thrown (wsN mX6_thrown) d mc ms [.ref x2] h215 c216 s217 (xP P) (kI fun y218 h219 c220 s221 => 
  (y218 = y208 → 
    (¬ y208 = 0 → 
      T_L_law_2161 l G d mc ms P x1 x2 x3 x4 h219 c220 s221
      ) ∧ (y208 = 0 → 
      vAL h219 x3 (0 : Int32) fun y224 =>
      ((lg_cmp y224 y214.toInt64) = 0 → 
        T_L_law_2161 l G d mc ms P x1 x2 x3 x4 h219 c220 s221
        ) ∧ (¬ (lg_cmp y224 y214.toInt64) = 0 → 
        P (.inl (some (.int 0))) h219
        )
      )
    ) ∧ (¬ y218 = y208 → 
    P (.inl (some (.int 0))) h219
    ))))))
set_option maxHeartbeats 4000000 in
theorem A_L_law_810 {l : Launch} {G : aG} {d mc ms : Nat} {P : aR → aH → Prop} {x1 : Nat} {x2 : Nat} {x3 : Nat} {x4 : Int32} {h : aH} {c s : Nat} (hl : l.stackTraces = false) (hv : V_L_law_810 l G d mc ms P x1 x2 x3 x4 h c s) : T_L_law_810 l G d mc ms P x1 x2 x3 x4 h c s := by
  intro hc hs
  unfold V_L_law_810 at hv
  refine aw_aload_n 1 (x := x1) dL_law_810 rfl rfl ?_
  refine aw_aload_n 0 (x := G.2.2.1) dL_law_811 rfl rfl ?_
  refine aw_iload 4 dL_law_812 rfl ?_
  refine aw_iconst (v := 1) dL_law_814 (by decide) ?_
  refine aw_iadd dL_law_815 ?_
  obtain ⟨z206, hv⟩ := hv
  refine aw_sld z206 dL_law_816 ?_
  refine aw_aload_n 0 (x := G.2.2.1) dL_law_817 rfl rfl ?_
  refine aw_iload 4 dL_law_818 rfl ?_
  refine aw_iconst (v := 2) dL_law_820 (by decide) ?_
  refine aw_iadd dL_law_821 ?_
  obtain ⟨z207, hv⟩ := hv
  refine aw_sld z207 dL_law_822 ?_
  refine aw_aload_n 3 (x := x3) dL_law_823 rfl rfl ?_
  obtain ⟨d2, mc2, ms2, Q, hM, hd9, hc9, hs9, hv, hx⟩ := hv
  refine aw_callSW (rest := []) hM nX0_put q1468 q1469 q118 q1470 dL_law_824 rfl hd9 (by decide) (Nat.le_of_ble_eq_true rfl) hc9 hs9 ?_ ?_
  rotate_left
  · exact fun E h2 q => aX_out (hx E h2 q) rfl hc9 hs9
  intro v9 h209 hq
  have hv := hv v9 h209 hq
  obtain ⟨y208, rfl, hv⟩ := hv
  refine aw_eqv (pc2 := 827) (st2 := [.int y208]) rfl rfl rfl rfl ?_
  revert hv hc9 hs9; generalize c + mc2 = c210; generalize s + ms2 = s211; intro hc9 hs9 hv
  refine aw_istore (lv' := [(5, .int y208), (0, .ref G.2.2.1), (1, .ref x1), (2, .ref x2), (3, .ref x3), (4, .int x4)]) dL_law_827 (Nat.le_of_ble_eq_true rfl) rfl ?_
  refine aw_aload_n 3 (x := x2) dL_law_829 rfl rfl ?_
  refine aw_aload_n 1 (x := G.2.2.1) dL_law_830 rfl rfl ?_
  refine aw_iload 5 dL_law_831 rfl ?_
  refine aw_iconst (v := 1) dL_law_833 (by decide) ?_
  refine aw_iadd dL_law_834 ?_
  obtain ⟨z212, hv⟩ := hv
  refine aw_sld z212 dL_law_835 ?_
  refine aw_aload_n 1 (x := G.2.2.1) dL_law_836 rfl rfl ?_
  refine aw_iload 5 dL_law_837 rfl ?_
  refine aw_iconst (v := 2) dL_law_839 (by decide) ?_
  refine aw_iadd dL_law_840 ?_
  obtain ⟨z213, hv⟩ := hv
  refine aw_sld z213 dL_law_841 ?_
  obtain ⟨⟨fs, he⟩, hv⟩ := hv
  obtain ⟨d2, mc2, ms2, Q, hM, hd9, hc9, hs9, hv, hx⟩ := hv
  refine aw_callV (rest := []) hM he rfl rfl nX6_put q1958 q1959 q1960 q137 q1961 dL_law_842 rfl hd9 (by decide) (Nat.le_of_ble_eq_true rfl) hc9 hs9 ?_ ?_
  rotate_left
  · exact fun E h2 q => aX_out (hx E h2 q) rfl hc9 hs9
  intro v9 h215 hq
  have hv := hv v9 h215 hq
  obtain ⟨y214, rfl, hv⟩ := hv
  refine aw_eqv (pc2 := 845) (st2 := [.int y214]) rfl rfl rfl rfl ?_
  revert hv hc9 hs9; generalize c210 + mc2 = c216; generalize s211 + ms2 = s217; intro hc9 hs9 hv
  refine aw_istore (lv' := [(6, .int y214), (5, .int y208), (0, .ref G.2.2.1), (1, .ref x1), (2, .ref x2), (3, .ref x3), (4, .int x4)]) dL_law_845 (Nat.le_of_ble_eq_true rfl) rfl ?_
  refine aw_aload_n 4 (x := x2) dL_law_847 rfl rfl ?_
  obtain ⟨⟨fs, he⟩, hv⟩ := hv
  obtain ⟨d2, mc2, ms2, Q, hM, hd9, hc9, hs9, hv, hx⟩ := hv
  refine aw_callV (rest := []) hM he rfl rfl nX6_thrown q1814 q1815 q1816 q137 q1817 dL_law_848 rfl hd9 (by decide) (Nat.le_of_ble_eq_true rfl) hc9 hs9 ?_ ?_
  rotate_left
  · exact fun E h2 q => aX_out (hx E h2 q) rfl hc9 hs9
  intro v9 h219 hq
  have hv := hv v9 h219 hq
  obtain ⟨y218, rfl, hv⟩ := hv
  refine aw_eqv (pc2 := 851) (st2 := [.int y218]) rfl rfl rfl rfl ?_
  revert hv hc9 hs9; generalize c216 + mc2 = c220; generalize s217 + ms2 = s221; intro hc9 hs9 hv
  refine aw_iload 1 dL_law_851 rfl ?_
  refine aw_icmp_eq 858 dL_law_853 (by decide) (fun c222 => ?_) (fun c222 => ?_)
  · have hv := hv.1 c222
    refine aw_iload 1 dL_law_858 rfl ?_
    refine aw_if_ne 875 dL_law_860 (by decide) (fun c223 => ?_) (fun c223 => ?_)
    · have hv := hv.1 c223
      refine aw_goto 2161 dL_law_875 (by decide) ?_
      refine aw_sub [2, 3, 4, 5, 6] rfl ?_
      exact hv hc9 hs9
    · have hv := hv.2 c223
      refine aw_aload_n 5 (x := x3) dL_law_863 rfl rfl ?_
      refine aw_iconst (v := 0) dL_law_864 (by decide) ?_
      obtain ⟨n9, f9, he, hin, hv⟩ := hv
      refine aw_lald he hin dL_law_865 ?_
      revert hv; generalize f9 ((0 : Int32)).toNatClampNeg = y224; intro hv
      refine aw_iload 0 dL_law_866 rfl ?_
      refine aw_i2l dL_law_868 ?_
      refine aw_lcmp dL_law_869 ?_
      refine aw_if_eq 875 dL_law_870 (by decide) (fun c225 => ?_) (fun c225 => ?_)
      · have hv := hv.1 c225
        refine aw_goto 2161 dL_law_875 (by decide) ?_
        refine aw_sub [2, 3, 4, 5, 6] rfl ?_
        exact hv hc9 hs9
      · have hv := hv.2 c225
        refine aw_iconst (v := 0) dL_law_873 (by decide) ?_
        exact aw_zret rfl rfl dL_law_874 hv hc9 hs9
  · have hv := hv.2 c222
    refine aw_iconst (v := 0) dL_law_856 (by decide) ?_
    exact aw_zret rfl rfl dL_law_857 hv hc9 hs9
def V_L_law_878 (l : Launch) (G : aG) (d mc ms : Nat) (P : aR → aH → Prop) (x1 : Nat) (x2 : Nat) (x3 : Nat) (x4 : Int32) (h : aH) (c s : Nat) : Prop :=
  vp_in (x4 + (1 : Int32)) G.2.2.2.1 ∧
  vp_in (x4 + (2 : Int32)) G.2.2.2.1 ∧
  vC l G mX0_crossOut (wsX mX0_crossOut) d mc ms [.ref x1, .int (G.2.2.2.2 (x4 + (1 : Int32)).toNatClampNeg), .int (G.2.2.2.2 (x4 + (2 : Int32)).toNatClampNeg), .ref x3] h c s (xP P) (kI fun y228 h229 c230 s231 => 
  vp_in (x4 + (1 : Int32)) G.2.2.2.1 ∧
  vp_in (x4 + (2 : Int32)) G.2.2.2.1 ∧
  vIs h229 x2 0 (
  vC l G mX6_crossOut (wsN mX6_crossOut) d mc ms [.ref x2, .int (G.2.2.2.2 (x4 + (1 : Int32)).toNatClampNeg), .int (G.2.2.2.2 (x4 + (2 : Int32)).toNatClampNeg)] h229 c230 s231 (xP P) (kI fun y234 h235 c236 s237 => 
  vIs h235 x2 0 (
  vC l G mX6_thrown (wsN mX6_thrown) d mc ms [.ref x2] h235 c236 s237 (xP P) (kI fun y238 h239 c240 s241 => 
  (y238 = y228 → 
    (¬ y228 = 0 → 
      T_L_law_2161 l G d mc ms P x1 x2 x3 x4 h239 c240 s241
      ) ∧ (y228 = 0 → 
      vAL h239 x3 (0 : Int32) fun y244 =>
      ((lg_cmp y244 y234.toInt64) = 0 → 
        T_L_law_2161 l G d mc ms P x1 x2 x3 x4 h239 c240 s241
        ) ∧ (¬ (lg_cmp y244 y234.toInt64) = 0 → 
        P (.inl (some (.int 0))) h239
        )
      )
    ) ∧ (¬ y238 = y228 → 
    P (.inl (some (.int 0))) h239
    ))))))
set_option maxHeartbeats 4000000 in
theorem A_L_law_878 {l : Launch} {G : aG} {d mc ms : Nat} {P : aR → aH → Prop} {x1 : Nat} {x2 : Nat} {x3 : Nat} {x4 : Int32} {h : aH} {c s : Nat} (hl : l.stackTraces = false) (hv : V_L_law_878 l G d mc ms P x1 x2 x3 x4 h c s) : T_L_law_878 l G d mc ms P x1 x2 x3 x4 h c s := by
  intro hc hs
  unfold V_L_law_878 at hv
  refine aw_aload_n 1 (x := x1) dL_law_878 rfl rfl ?_
  refine aw_aload_n 0 (x := G.2.2.1) dL_law_879 rfl rfl ?_
  refine aw_iload 4 dL_law_880 rfl ?_
  refine aw_iconst (v := 1) dL_law_882 (by decide) ?_
  refine aw_iadd dL_law_883 ?_
  obtain ⟨z226, hv⟩ := hv
  refine aw_sld z226 dL_law_884 ?_
  refine aw_aload_n 0 (x := G.2.2.1) dL_law_885 rfl rfl ?_
  refine aw_iload 4 dL_law_886 rfl ?_
  refine aw_iconst (v := 2) dL_law_888 (by decide) ?_
  refine aw_iadd dL_law_889 ?_
  obtain ⟨z227, hv⟩ := hv
  refine aw_sld z227 dL_law_890 ?_
  refine aw_aload_n 3 (x := x3) dL_law_891 rfl rfl ?_
  obtain ⟨d2, mc2, ms2, Q, hM, hd9, hc9, hs9, hv, hx⟩ := hv
  refine aw_callSW (rest := []) hM nX0_crossOut q1487 q1488 q118 q1489 dL_law_892 rfl hd9 (by decide) (Nat.le_of_ble_eq_true rfl) hc9 hs9 ?_ ?_
  rotate_left
  · exact fun E h2 q => aX_out (hx E h2 q) rfl hc9 hs9
  intro v9 h229 hq
  have hv := hv v9 h229 hq
  obtain ⟨y228, rfl, hv⟩ := hv
  refine aw_eqv (pc2 := 895) (st2 := [.int y228]) rfl rfl rfl rfl ?_
  revert hv hc9 hs9; generalize c + mc2 = c230; generalize s + ms2 = s231; intro hc9 hs9 hv
  refine aw_istore (lv' := [(5, .int y228), (0, .ref G.2.2.1), (1, .ref x1), (2, .ref x2), (3, .ref x3), (4, .int x4)]) dL_law_895 (Nat.le_of_ble_eq_true rfl) rfl ?_
  refine aw_aload_n 3 (x := x2) dL_law_897 rfl rfl ?_
  refine aw_aload_n 1 (x := G.2.2.1) dL_law_898 rfl rfl ?_
  refine aw_iload 5 dL_law_899 rfl ?_
  refine aw_iconst (v := 1) dL_law_901 (by decide) ?_
  refine aw_iadd dL_law_902 ?_
  obtain ⟨z232, hv⟩ := hv
  refine aw_sld z232 dL_law_903 ?_
  refine aw_aload_n 1 (x := G.2.2.1) dL_law_904 rfl rfl ?_
  refine aw_iload 5 dL_law_905 rfl ?_
  refine aw_iconst (v := 2) dL_law_907 (by decide) ?_
  refine aw_iadd dL_law_908 ?_
  obtain ⟨z233, hv⟩ := hv
  refine aw_sld z233 dL_law_909 ?_
  obtain ⟨⟨fs, he⟩, hv⟩ := hv
  obtain ⟨d2, mc2, ms2, Q, hM, hd9, hc9, hs9, hv, hx⟩ := hv
  refine aw_callV (rest := []) hM he rfl rfl nX6_crossOut q1974 q1975 q1976 q137 q1977 dL_law_910 rfl hd9 (by decide) (Nat.le_of_ble_eq_true rfl) hc9 hs9 ?_ ?_
  rotate_left
  · exact fun E h2 q => aX_out (hx E h2 q) rfl hc9 hs9
  intro v9 h235 hq
  have hv := hv v9 h235 hq
  obtain ⟨y234, rfl, hv⟩ := hv
  refine aw_eqv (pc2 := 913) (st2 := [.int y234]) rfl rfl rfl rfl ?_
  revert hv hc9 hs9; generalize c230 + mc2 = c236; generalize s231 + ms2 = s237; intro hc9 hs9 hv
  refine aw_istore (lv' := [(6, .int y234), (5, .int y228), (0, .ref G.2.2.1), (1, .ref x1), (2, .ref x2), (3, .ref x3), (4, .int x4)]) dL_law_913 (Nat.le_of_ble_eq_true rfl) rfl ?_
  refine aw_aload_n 4 (x := x2) dL_law_915 rfl rfl ?_
  obtain ⟨⟨fs, he⟩, hv⟩ := hv
  obtain ⟨d2, mc2, ms2, Q, hM, hd9, hc9, hs9, hv, hx⟩ := hv
  refine aw_callV (rest := []) hM he rfl rfl nX6_thrown q1814 q1815 q1816 q137 q1817 dL_law_916 rfl hd9 (by decide) (Nat.le_of_ble_eq_true rfl) hc9 hs9 ?_ ?_
  rotate_left
  · exact fun E h2 q => aX_out (hx E h2 q) rfl hc9 hs9
  intro v9 h239 hq
  have hv := hv v9 h239 hq
  obtain ⟨y238, rfl, hv⟩ := hv
  refine aw_eqv (pc2 := 919) (st2 := [.int y238]) rfl rfl rfl rfl ?_
  revert hv hc9 hs9; generalize c236 + mc2 = c240; generalize s237 + ms2 = s241; intro hc9 hs9 hv
  refine aw_iload 1 dL_law_919 rfl ?_
  refine aw_icmp_eq 926 dL_law_921 (by decide) (fun c242 => ?_) (fun c242 => ?_)
  · have hv := hv.1 c242
    refine aw_iload 1 dL_law_926 rfl ?_
    refine aw_if_ne 943 dL_law_928 (by decide) (fun c243 => ?_) (fun c243 => ?_)
    · have hv := hv.1 c243
      refine aw_goto 2161 dL_law_943 (by decide) ?_
      refine aw_sub [2, 3, 4, 5, 6] rfl ?_
      exact hv hc9 hs9
    · have hv := hv.2 c243
      refine aw_aload_n 5 (x := x3) dL_law_931 rfl rfl ?_
      refine aw_iconst (v := 0) dL_law_932 (by decide) ?_
      obtain ⟨n9, f9, he, hin, hv⟩ := hv
      refine aw_lald he hin dL_law_933 ?_
      revert hv; generalize f9 ((0 : Int32)).toNatClampNeg = y244; intro hv
      refine aw_iload 0 dL_law_934 rfl ?_
      refine aw_i2l dL_law_936 ?_
      refine aw_lcmp dL_law_937 ?_
      refine aw_if_eq 943 dL_law_938 (by decide) (fun c245 => ?_) (fun c245 => ?_)
      · have hv := hv.1 c245
        refine aw_goto 2161 dL_law_943 (by decide) ?_
        refine aw_sub [2, 3, 4, 5, 6] rfl ?_
        exact hv hc9 hs9
      · have hv := hv.2 c245
        refine aw_iconst (v := 0) dL_law_941 (by decide) ?_
        exact aw_zret rfl rfl dL_law_942 hv hc9 hs9
  · have hv := hv.2 c242
    refine aw_iconst (v := 0) dL_law_924 (by decide) ?_
    exact aw_zret rfl rfl dL_law_925 hv hc9 hs9
def V_L_law_946 (l : Launch) (G : aG) (d mc ms : Nat) (P : aR → aH → Prop) (x1 : Nat) (x2 : Nat) (x3 : Nat) (x4 : Int32) (h : aH) (c s : Nat) : Prop :=
  vIs h x1 1 (
  vC l G mX1_clearCells (wsN mX1_clearCells) d mc ms [.ref x1] h c s (xP P) (kI fun y246 h247 c248 s249 => 
  vIs h247 x2 0 (
  vC l G mX6_clearCells (wsN mX6_clearCells) d mc ms [.ref x2] h247 c248 s249 (xP P) (kI fun y250 h251 c252 s253 => 
  (y246 = y250 → 
    T_L_law_2161 l G d mc ms P x1 x2 x3 x4 h251 c252 s253
    ) ∧ (¬ y246 = y250 → 
    P (.inl (some (.int 0))) h251
    )))))
set_option maxHeartbeats 4000000 in
theorem A_L_law_946 {l : Launch} {G : aG} {d mc ms : Nat} {P : aR → aH → Prop} {x1 : Nat} {x2 : Nat} {x3 : Nat} {x4 : Int32} {h : aH} {c s : Nat} (hl : l.stackTraces = false) (hv : V_L_law_946 l G d mc ms P x1 x2 x3 x4 h c s) : T_L_law_946 l G d mc ms P x1 x2 x3 x4 h c s := by
  intro hc hs
  unfold V_L_law_946 at hv
  refine aw_aload_n 1 (x := x1) dL_law_946 rfl rfl ?_
  obtain ⟨⟨fs, he⟩, hv⟩ := hv
  obtain ⟨d2, mc2, ms2, Q, hM, hd9, hc9, hs9, hv, hx⟩ := hv
  refine aw_callV (rest := []) hM he rfl rfl nX1_clearCells q600 q601 q602 q119 q603 dL_law_947 rfl hd9 (by decide) (Nat.le_of_ble_eq_true rfl) hc9 hs9 ?_ ?_
  rotate_left
  · exact fun E h2 q => aX_out (hx E h2 q) rfl hc9 hs9
  intro v9 h247 hq
  have hv := hv v9 h247 hq
  obtain ⟨y246, rfl, hv⟩ := hv
  refine aw_eqv (pc2 := 950) (st2 := [.int y246]) rfl rfl rfl rfl ?_
  revert hv hc9 hs9; generalize c + mc2 = c248; generalize s + ms2 = s249; intro hc9 hs9 hv
  refine aw_aload_n 2 (x := x2) dL_law_950 rfl rfl ?_
  obtain ⟨⟨fs, he⟩, hv⟩ := hv
  obtain ⟨d2, mc2, ms2, Q, hM, hd9, hc9, hs9, hv, hx⟩ := hv
  refine aw_callV (rest := [.int y246]) hM he rfl rfl nX6_clearCells q1978 q1979 q1980 q137 q1981 dL_law_951 rfl hd9 (by decide) (Nat.le_of_ble_eq_true rfl) hc9 hs9 ?_ ?_
  rotate_left
  · exact fun E h2 q => aX_out (hx E h2 q) rfl hc9 hs9
  intro v9 h251 hq
  have hv := hv v9 h251 hq
  obtain ⟨y250, rfl, hv⟩ := hv
  refine aw_eqv (pc2 := 954) (st2 := [.int y250, .int y246]) rfl rfl rfl rfl ?_
  revert hv hc9 hs9; generalize c248 + mc2 = c252; generalize s249 + ms2 = s253; intro hc9 hs9 hv
  refine aw_icmp_eq 2161 dL_law_954 (by decide) (fun c254 => ?_) (fun c254 => ?_)
  · have hv := hv.1 c254
    exact hv hc9 hs9
  · have hv := hv.2 c254
    refine aw_iconst (v := 0) dL_law_957 (by decide) ?_
    exact aw_zret rfl rfl dL_law_958 hv hc9 hs9
def V_L_law_959 (l : Launch) (G : aG) (d mc ms : Nat) (P : aR → aH → Prop) (x1 : Nat) (x2 : Nat) (x3 : Nat) (x4 : Int32) (h : aH) (c s : Nat) : Prop :=
  vp_in (x4 + (1 : Int32)) G.2.2.2.1 ∧
  vC l G mX0_thingsOf (wsX mX0_thingsOf) d mc ms [.ref x1, .int (G.2.2.2.2 (x4 + (1 : Int32)).toNatClampNeg), .ref x3] h c s (xP P) (kI fun y256 h257 c258 s259 => 
  vp_in (x4 + (1 : Int32)) G.2.2.2.1 ∧
  vIs h257 x2 0 (
  vC l G mX6_thingsOf (wsN mX6_thingsOf) d mc ms [.ref x2, .int (G.2.2.2.2 (x4 + (1 : Int32)).toNatClampNeg)] h257 c258 s259 (xP P) (kI fun y261 h262 c263 s264 => 
  vIs h262 x2 0 (
  vC l G mX6_thrown (wsN mX6_thrown) d mc ms [.ref x2] h262 c263 s264 (xP P) (kI fun y265 h266 c267 s268 => 
  (y265 = y256 → 
    (¬ y256 = 0 → 
      T_L_law_2161 l G d mc ms P x1 x2 x3 x4 h266 c267 s268
      ) ∧ (y256 = 0 → 
      vAL h266 x3 (0 : Int32) fun y271 =>
      ((lg_cmp y271 y261.toInt64) = 0 → 
        T_L_law_2161 l G d mc ms P x1 x2 x3 x4 h266 c267 s268
        ) ∧ (¬ (lg_cmp y271 y261.toInt64) = 0 → 
        P (.inl (some (.int 0))) h266
        )
      )
    ) ∧ (¬ y265 = y256 → 
    P (.inl (some (.int 0))) h266
    ))))))
set_option maxHeartbeats 4000000 in
theorem A_L_law_959 {l : Launch} {G : aG} {d mc ms : Nat} {P : aR → aH → Prop} {x1 : Nat} {x2 : Nat} {x3 : Nat} {x4 : Int32} {h : aH} {c s : Nat} (hl : l.stackTraces = false) (hv : V_L_law_959 l G d mc ms P x1 x2 x3 x4 h c s) : T_L_law_959 l G d mc ms P x1 x2 x3 x4 h c s := by
  intro hc hs
  unfold V_L_law_959 at hv
  refine aw_aload_n 1 (x := x1) dL_law_959 rfl rfl ?_
  refine aw_aload_n 0 (x := G.2.2.1) dL_law_960 rfl rfl ?_
  refine aw_iload 4 dL_law_961 rfl ?_
  refine aw_iconst (v := 1) dL_law_963 (by decide) ?_
  refine aw_iadd dL_law_964 ?_
  obtain ⟨z255, hv⟩ := hv
  refine aw_sld z255 dL_law_965 ?_
  refine aw_aload_n 3 (x := x3) dL_law_966 rfl rfl ?_
  obtain ⟨d2, mc2, ms2, Q, hM, hd9, hc9, hs9, hv, hx⟩ := hv
  refine aw_callSW (rest := []) hM nX0_thingsOf q1498 q1499 q118 q1500 dL_law_967 rfl hd9 (by decide) (Nat.le_of_ble_eq_true rfl) hc9 hs9 ?_ ?_
  rotate_left
  · exact fun E h2 q => aX_out (hx E h2 q) rfl hc9 hs9
  intro v9 h257 hq
  have hv := hv v9 h257 hq
  obtain ⟨y256, rfl, hv⟩ := hv
  refine aw_eqv (pc2 := 970) (st2 := [.int y256]) rfl rfl rfl rfl ?_
  revert hv hc9 hs9; generalize c + mc2 = c258; generalize s + ms2 = s259; intro hc9 hs9 hv
  refine aw_istore (lv' := [(5, .int y256), (0, .ref G.2.2.1), (1, .ref x1), (2, .ref x2), (3, .ref x3), (4, .int x4)]) dL_law_970 (Nat.le_of_ble_eq_true rfl) rfl ?_
  refine aw_aload_n 3 (x := x2) dL_law_972 rfl rfl ?_
  refine aw_aload_n 1 (x := G.2.2.1) dL_law_973 rfl rfl ?_
  refine aw_iload 5 dL_law_974 rfl ?_
  refine aw_iconst (v := 1) dL_law_976 (by decide) ?_
  refine aw_iadd dL_law_977 ?_
  obtain ⟨z260, hv⟩ := hv
  refine aw_sld z260 dL_law_978 ?_
  obtain ⟨⟨fs, he⟩, hv⟩ := hv
  obtain ⟨d2, mc2, ms2, Q, hM, hd9, hc9, hs9, hv, hx⟩ := hv
  refine aw_callV (rest := []) hM he rfl rfl nX6_thingsOf q1982 q1983 q1984 q137 q1985 dL_law_979 rfl hd9 (by decide) (Nat.le_of_ble_eq_true rfl) hc9 hs9 ?_ ?_
  rotate_left
  · exact fun E h2 q => aX_out (hx E h2 q) rfl hc9 hs9
  intro v9 h262 hq
  have hv := hv v9 h262 hq
  obtain ⟨y261, rfl, hv⟩ := hv
  refine aw_eqv (pc2 := 982) (st2 := [.int y261]) rfl rfl rfl rfl ?_
  revert hv hc9 hs9; generalize c258 + mc2 = c263; generalize s259 + ms2 = s264; intro hc9 hs9 hv
  refine aw_istore (lv' := [(6, .int y261), (5, .int y256), (0, .ref G.2.2.1), (1, .ref x1), (2, .ref x2), (3, .ref x3), (4, .int x4)]) dL_law_982 (Nat.le_of_ble_eq_true rfl) rfl ?_
  refine aw_aload_n 4 (x := x2) dL_law_984 rfl rfl ?_
  obtain ⟨⟨fs, he⟩, hv⟩ := hv
  obtain ⟨d2, mc2, ms2, Q, hM, hd9, hc9, hs9, hv, hx⟩ := hv
  refine aw_callV (rest := []) hM he rfl rfl nX6_thrown q1814 q1815 q1816 q137 q1817 dL_law_985 rfl hd9 (by decide) (Nat.le_of_ble_eq_true rfl) hc9 hs9 ?_ ?_
  rotate_left
  · exact fun E h2 q => aX_out (hx E h2 q) rfl hc9 hs9
  intro v9 h266 hq
  have hv := hv v9 h266 hq
  obtain ⟨y265, rfl, hv⟩ := hv
  refine aw_eqv (pc2 := 988) (st2 := [.int y265]) rfl rfl rfl rfl ?_
  revert hv hc9 hs9; generalize c263 + mc2 = c267; generalize s264 + ms2 = s268; intro hc9 hs9 hv
  refine aw_iload 1 dL_law_988 rfl ?_
  refine aw_icmp_eq 995 dL_law_990 (by decide) (fun c269 => ?_) (fun c269 => ?_)
  · have hv := hv.1 c269
    refine aw_iload 1 dL_law_995 rfl ?_
    refine aw_if_ne 1012 dL_law_997 (by decide) (fun c270 => ?_) (fun c270 => ?_)
    · have hv := hv.1 c270
      refine aw_goto 2161 dL_law_1012 (by decide) ?_
      refine aw_sub [2, 3, 4, 5, 6] rfl ?_
      exact hv hc9 hs9
    · have hv := hv.2 c270
      refine aw_aload_n 5 (x := x3) dL_law_1000 rfl rfl ?_
      refine aw_iconst (v := 0) dL_law_1001 (by decide) ?_
      obtain ⟨n9, f9, he, hin, hv⟩ := hv
      refine aw_lald he hin dL_law_1002 ?_
      revert hv; generalize f9 ((0 : Int32)).toNatClampNeg = y271; intro hv
      refine aw_iload 0 dL_law_1003 rfl ?_
      refine aw_i2l dL_law_1005 ?_
      refine aw_lcmp dL_law_1006 ?_
      refine aw_if_eq 1012 dL_law_1007 (by decide) (fun c272 => ?_) (fun c272 => ?_)
      · have hv := hv.1 c272
        refine aw_goto 2161 dL_law_1012 (by decide) ?_
        refine aw_sub [2, 3, 4, 5, 6] rfl ?_
        exact hv hc9 hs9
      · have hv := hv.2 c272
        refine aw_iconst (v := 0) dL_law_1010 (by decide) ?_
        exact aw_zret rfl rfl dL_law_1011 hv hc9 hs9
  · have hv := hv.2 c269
    refine aw_iconst (v := 0) dL_law_993 (by decide) ?_
    exact aw_zret rfl rfl dL_law_994 hv hc9 hs9
def V_L_law_1015 (l : Launch) (G : aG) (d mc ms : Nat) (P : aR → aH → Prop) (x1 : Nat) (x2 : Nat) (x3 : Nat) (x4 : Int32) (h : aH) (c s : Nat) : Prop :=
  vp_in (x4 + (1 : Int32)) G.2.2.2.1 ∧
  vC l G mX0_cellsWith (wsX mX0_cellsWith) d mc ms [.ref x1, .int (G.2.2.2.2 (x4 + (1 : Int32)).toNatClampNeg), .ref x3] h c s (xP P) (kI fun y274 h275 c276 s277 => 
  vp_in (x4 + (1 : Int32)) G.2.2.2.1 ∧
  vIs h275 x2 0 (
  vC l G mX6_cellsWith (wsN mX6_cellsWith) d mc ms [.ref x2, .int (G.2.2.2.2 (x4 + (1 : Int32)).toNatClampNeg)] h275 c276 s277 (xP P) (kL fun y279 h280 c281 s282 => 
  vIs h280 x2 0 (
  vC l G mX6_thrown (wsN mX6_thrown) d mc ms [.ref x2] h280 c281 s282 (xP P) (kI fun y283 h284 c285 s286 => 
  (y283 = y274 → 
    (¬ y274 = 0 → 
      T_L_law_2161 l G d mc ms P x1 x2 x3 x4 h284 c285 s286
      ) ∧ (y274 = 0 → 
      vAL h284 x3 (0 : Int32) fun y289 =>
      ((lg_cmp y289 y279) = 0 → 
        T_L_law_2161 l G d mc ms P x1 x2 x3 x4 h284 c285 s286
        ) ∧ (¬ (lg_cmp y289 y279) = 0 → 
        P (.inl (some (.int 0))) h284
        )
      )
    ) ∧ (¬ y283 = y274 → 
    P (.inl (some (.int 0))) h284
    ))))))
set_option maxHeartbeats 4000000 in
theorem A_L_law_1015 {l : Launch} {G : aG} {d mc ms : Nat} {P : aR → aH → Prop} {x1 : Nat} {x2 : Nat} {x3 : Nat} {x4 : Int32} {h : aH} {c s : Nat} (hl : l.stackTraces = false) (hv : V_L_law_1015 l G d mc ms P x1 x2 x3 x4 h c s) : T_L_law_1015 l G d mc ms P x1 x2 x3 x4 h c s := by
  intro hc hs
  unfold V_L_law_1015 at hv
  refine aw_aload_n 1 (x := x1) dL_law_1015 rfl rfl ?_
  refine aw_aload_n 0 (x := G.2.2.1) dL_law_1016 rfl rfl ?_
  refine aw_iload 4 dL_law_1017 rfl ?_
  refine aw_iconst (v := 1) dL_law_1019 (by decide) ?_
  refine aw_iadd dL_law_1020 ?_
  obtain ⟨z273, hv⟩ := hv
  refine aw_sld z273 dL_law_1021 ?_
  refine aw_aload_n 3 (x := x3) dL_law_1022 rfl rfl ?_
  obtain ⟨d2, mc2, ms2, Q, hM, hd9, hc9, hs9, hv, hx⟩ := hv
  refine aw_callSW (rest := []) hM nX0_cellsWith q1505 q1506 q118 q1507 dL_law_1023 rfl hd9 (by decide) (Nat.le_of_ble_eq_true rfl) hc9 hs9 ?_ ?_
  rotate_left
  · exact fun E h2 q => aX_out (hx E h2 q) rfl hc9 hs9
  intro v9 h275 hq
  have hv := hv v9 h275 hq
  obtain ⟨y274, rfl, hv⟩ := hv
  refine aw_eqv (pc2 := 1026) (st2 := [.int y274]) rfl rfl rfl rfl ?_
  revert hv hc9 hs9; generalize c + mc2 = c276; generalize s + ms2 = s277; intro hc9 hs9 hv
  refine aw_istore (lv' := [(5, .int y274), (0, .ref G.2.2.1), (1, .ref x1), (2, .ref x2), (3, .ref x3), (4, .int x4)]) dL_law_1026 (Nat.le_of_ble_eq_true rfl) rfl ?_
  refine aw_aload_n 3 (x := x2) dL_law_1028 rfl rfl ?_
  refine aw_aload_n 1 (x := G.2.2.1) dL_law_1029 rfl rfl ?_
  refine aw_iload 5 dL_law_1030 rfl ?_
  refine aw_iconst (v := 1) dL_law_1032 (by decide) ?_
  refine aw_iadd dL_law_1033 ?_
  obtain ⟨z278, hv⟩ := hv
  refine aw_sld z278 dL_law_1034 ?_
  obtain ⟨⟨fs, he⟩, hv⟩ := hv
  obtain ⟨d2, mc2, ms2, Q, hM, hd9, hc9, hs9, hv, hx⟩ := hv
  refine aw_callV (rest := []) hM he rfl rfl nX6_cellsWith q1986 q1987 q1988 q137 q1989 dL_law_1035 rfl hd9 (by decide) (Nat.le_of_ble_eq_true rfl) hc9 hs9 ?_ ?_
  rotate_left
  · exact fun E h2 q => aX_out (hx E h2 q) rfl hc9 hs9
  intro v9 h280 hq
  have hv := hv v9 h280 hq
  obtain ⟨y279, rfl, hv⟩ := hv
  refine aw_eqv (pc2 := 1038) (st2 := [.long y279]) rfl rfl rfl rfl ?_
  revert hv hc9 hs9; generalize c276 + mc2 = c281; generalize s277 + ms2 = s282; intro hc9 hs9 hv
  refine aw_lstore (lv' := [(6, .long y279), (5, .int y274), (0, .ref G.2.2.1), (1, .ref x1), (2, .ref x2), (3, .ref x3), (4, .int x4)]) dL_law_1038 (Nat.le_of_ble_eq_true rfl) rfl ?_
  refine aw_aload_n 4 (x := x2) dL_law_1040 rfl rfl ?_
  obtain ⟨⟨fs, he⟩, hv⟩ := hv
  obtain ⟨d2, mc2, ms2, Q, hM, hd9, hc9, hs9, hv, hx⟩ := hv
  refine aw_callV (rest := []) hM he rfl rfl nX6_thrown q1814 q1815 q1816 q137 q1817 dL_law_1041 rfl hd9 (by decide) (Nat.le_of_ble_eq_true rfl) hc9 hs9 ?_ ?_
  rotate_left
  · exact fun E h2 q => aX_out (hx E h2 q) rfl hc9 hs9
  intro v9 h284 hq
  have hv := hv v9 h284 hq
  obtain ⟨y283, rfl, hv⟩ := hv
  refine aw_eqv (pc2 := 1044) (st2 := [.int y283]) rfl rfl rfl rfl ?_
  revert hv hc9 hs9; generalize c281 + mc2 = c285; generalize s282 + ms2 = s286; intro hc9 hs9 hv
  refine aw_iload 1 dL_law_1044 rfl ?_
  refine aw_icmp_eq 1051 dL_law_1046 (by decide) (fun c287 => ?_) (fun c287 => ?_)
  · have hv := hv.1 c287
    refine aw_iload 1 dL_law_1051 rfl ?_
    refine aw_if_ne 1067 dL_law_1053 (by decide) (fun c288 => ?_) (fun c288 => ?_)
    · have hv := hv.1 c288
      refine aw_goto 2161 dL_law_1067 (by decide) ?_
      refine aw_sub [2, 3, 4, 5, 6] rfl ?_
      exact hv hc9 hs9
    · have hv := hv.2 c288
      refine aw_aload_n 5 (x := x3) dL_law_1056 rfl rfl ?_
      refine aw_iconst (v := 0) dL_law_1057 (by decide) ?_
      obtain ⟨n9, f9, he, hin, hv⟩ := hv
      refine aw_lald he hin dL_law_1058 ?_
      revert hv; generalize f9 ((0 : Int32)).toNatClampNeg = y289; intro hv
      refine aw_lload 0 dL_law_1059 rfl ?_
      refine aw_lcmp dL_law_1061 ?_
      refine aw_if_eq 1067 dL_law_1062 (by decide) (fun c290 => ?_) (fun c290 => ?_)
      · have hv := hv.1 c290
        refine aw_goto 2161 dL_law_1067 (by decide) ?_
        refine aw_sub [2, 3, 4, 5, 6] rfl ?_
        exact hv hc9 hs9
      · have hv := hv.2 c290
        refine aw_iconst (v := 0) dL_law_1065 (by decide) ?_
        exact aw_zret rfl rfl dL_law_1066 hv hc9 hs9
  · have hv := hv.2 c287
    refine aw_iconst (v := 0) dL_law_1049 (by decide) ?_
    exact aw_zret rfl rfl dL_law_1050 hv hc9 hs9
def V_L_law_1070 (l : Launch) (G : aG) (d mc ms : Nat) (P : aR → aH → Prop) (x1 : Nat) (x2 : Nat) (x3 : Nat) (x4 : Int32) (h : aH) (c s : Nat) : Prop :=
  vIs h x1 1 (
  vC l G mX1_settled (wsN mX1_settled) d mc ms [.ref x1] h c s (xP P) (kL fun y291 h292 c293 s294 => 
  vIs h292 x2 0 (
  vC l G mX6_settled (wsN mX6_settled) d mc ms [.ref x2] h292 c293 s294 (xP P) (kL fun y295 h296 c297 s298 => 
  ((lg_cmp y291 y295) = 0 → 
    T_L_law_2161 l G d mc ms P x1 x2 x3 x4 h296 c297 s298
    ) ∧ (¬ (lg_cmp y291 y295) = 0 → 
    P (.inl (some (.int 0))) h296
    )))))
set_option maxHeartbeats 4000000 in
theorem A_L_law_1070 {l : Launch} {G : aG} {d mc ms : Nat} {P : aR → aH → Prop} {x1 : Nat} {x2 : Nat} {x3 : Nat} {x4 : Int32} {h : aH} {c s : Nat} (hl : l.stackTraces = false) (hv : V_L_law_1070 l G d mc ms P x1 x2 x3 x4 h c s) : T_L_law_1070 l G d mc ms P x1 x2 x3 x4 h c s := by
  intro hc hs
  unfold V_L_law_1070 at hv
  refine aw_aload_n 1 (x := x1) dL_law_1070 rfl rfl ?_
  obtain ⟨⟨fs, he⟩, hv⟩ := hv
  obtain ⟨d2, mc2, ms2, Q, hM, hd9, hc9, hs9, hv, hx⟩ := hv
  refine aw_callV (rest := []) hM he rfl rfl nX1_settled q605 q606 q607 q119 q608 dL_law_1071 rfl hd9 (by decide) (Nat.le_of_ble_eq_true rfl) hc9 hs9 ?_ ?_
  rotate_left
  · exact fun E h2 q => aX_out (hx E h2 q) rfl hc9 hs9
  intro v9 h292 hq
  have hv := hv v9 h292 hq
  obtain ⟨y291, rfl, hv⟩ := hv
  refine aw_eqv (pc2 := 1074) (st2 := [.long y291]) rfl rfl rfl rfl ?_
  revert hv hc9 hs9; generalize c + mc2 = c293; generalize s + ms2 = s294; intro hc9 hs9 hv
  refine aw_aload_n 2 (x := x2) dL_law_1074 rfl rfl ?_
  obtain ⟨⟨fs, he⟩, hv⟩ := hv
  obtain ⟨d2, mc2, ms2, Q, hM, hd9, hc9, hs9, hv, hx⟩ := hv
  refine aw_callV (rest := [.long y291]) hM he rfl rfl nX6_settled q1990 q1991 q1992 q137 q1993 dL_law_1075 rfl hd9 (by decide) (Nat.le_of_ble_eq_true rfl) hc9 hs9 ?_ ?_
  rotate_left
  · exact fun E h2 q => aX_out (hx E h2 q) rfl hc9 hs9
  intro v9 h296 hq
  have hv := hv v9 h296 hq
  obtain ⟨y295, rfl, hv⟩ := hv
  refine aw_eqv (pc2 := 1078) (st2 := [.long y295, .long y291]) rfl rfl rfl rfl ?_
  revert hv hc9 hs9; generalize c293 + mc2 = c297; generalize s294 + ms2 = s298; intro hc9 hs9 hv
  refine aw_lcmp dL_law_1078 ?_
  refine aw_if_eq 2161 dL_law_1079 (by decide) (fun c299 => ?_) (fun c299 => ?_)
  · have hv := hv.1 c299
    exact hv hc9 hs9
  · have hv := hv.2 c299
    refine aw_iconst (v := 0) dL_law_1082 (by decide) ?_
    exact aw_zret rfl rfl dL_law_1083 hv hc9 hs9
def V_L_law_1084 (l : Launch) (G : aG) (d mc ms : Nat) (P : aR → aH → Prop) (x1 : Nat) (x2 : Nat) (x3 : Nat) (x4 : Int32) (h : aH) (c s : Nat) : Prop :=
  vIs h x1 1 (
  vC l G mX1_isBroken (wsN mX1_isBroken) d mc ms [.ref x1] h c s (xP P) (kI fun y300 h301 c302 s303 => 
  vIs h301 x2 0 (
  vC l G mX6_isBroken (wsN mX6_isBroken) d mc ms [.ref x2] h301 c302 s303 (xP P) (kI fun y304 h305 c306 s307 => 
  (y300 = y304 → 
    T_L_law_2161 l G d mc ms P x1 x2 x3 x4 h305 c306 s307
    ) ∧ (¬ y300 = y304 → 
    P (.inl (some (.int 0))) h305
    )))))
set_option maxHeartbeats 4000000 in
theorem A_L_law_1084 {l : Launch} {G : aG} {d mc ms : Nat} {P : aR → aH → Prop} {x1 : Nat} {x2 : Nat} {x3 : Nat} {x4 : Int32} {h : aH} {c s : Nat} (hl : l.stackTraces = false) (hv : V_L_law_1084 l G d mc ms P x1 x2 x3 x4 h c s) : T_L_law_1084 l G d mc ms P x1 x2 x3 x4 h c s := by
  intro hc hs
  unfold V_L_law_1084 at hv
  refine aw_aload_n 1 (x := x1) dL_law_1084 rfl rfl ?_
  obtain ⟨⟨fs, he⟩, hv⟩ := hv
  obtain ⟨d2, mc2, ms2, Q, hM, hd9, hc9, hs9, hv, hx⟩ := hv
  refine aw_callV (rest := []) hM he rfl rfl nX1_isBroken q614 q615 q616 q119 q617 dL_law_1085 rfl hd9 (by decide) (Nat.le_of_ble_eq_true rfl) hc9 hs9 ?_ ?_
  rotate_left
  · exact fun E h2 q => aX_out (hx E h2 q) rfl hc9 hs9
  intro v9 h301 hq
  have hv := hv v9 h301 hq
  obtain ⟨y300, rfl, hv⟩ := hv
  refine aw_eqv (pc2 := 1088) (st2 := [.int y300]) rfl rfl rfl rfl ?_
  revert hv hc9 hs9; generalize c + mc2 = c302; generalize s + ms2 = s303; intro hc9 hs9 hv
  refine aw_aload_n 2 (x := x2) dL_law_1088 rfl rfl ?_
  obtain ⟨⟨fs, he⟩, hv⟩ := hv
  obtain ⟨d2, mc2, ms2, Q, hM, hd9, hc9, hs9, hv, hx⟩ := hv
  refine aw_callV (rest := [.int y300]) hM he rfl rfl nX6_isBroken q2001 q2002 q2003 q137 q2004 dL_law_1089 rfl hd9 (by decide) (Nat.le_of_ble_eq_true rfl) hc9 hs9 ?_ ?_
  rotate_left
  · exact fun E h2 q => aX_out (hx E h2 q) rfl hc9 hs9
  intro v9 h305 hq
  have hv := hv v9 h305 hq
  obtain ⟨y304, rfl, hv⟩ := hv
  refine aw_eqv (pc2 := 1092) (st2 := [.int y304, .int y300]) rfl rfl rfl rfl ?_
  revert hv hc9 hs9; generalize c302 + mc2 = c306; generalize s303 + ms2 = s307; intro hc9 hs9 hv
  refine aw_icmp_eq 2161 dL_law_1092 (by decide) (fun c308 => ?_) (fun c308 => ?_)
  · have hv := hv.1 c308
    exact hv hc9 hs9
  · have hv := hv.2 c308
    refine aw_iconst (v := 0) dL_law_1095 (by decide) ?_
    exact aw_zret rfl rfl dL_law_1096 hv hc9 hs9
def V_L_law_1097 (l : Launch) (G : aG) (d mc ms : Nat) (P : aR → aH → Prop) (x1 : Nat) (x2 : Nat) (x3 : Nat) (x4 : Int32) (h : aH) (c s : Nat) : Prop :=
  vIs h x1 1 (
  vC l G mX1_isSolved (wsN mX1_isSolved) d mc ms [.ref x1] h c s (xP P) (kI fun y309 h310 c311 s312 => 
  vIs h310 x2 0 (
  vC l G mX6_isSolved (wsN mX6_isSolved) d mc ms [.ref x2] h310 c311 s312 (xP P) (kI fun y313 h314 c315 s316 => 
  (y309 = y313 → 
    T_L_law_2161 l G d mc ms P x1 x2 x3 x4 h314 c315 s316
    ) ∧ (¬ y309 = y313 → 
    P (.inl (some (.int 0))) h314
    )))))
set_option maxHeartbeats 4000000 in
theorem A_L_law_1097 {l : Launch} {G : aG} {d mc ms : Nat} {P : aR → aH → Prop} {x1 : Nat} {x2 : Nat} {x3 : Nat} {x4 : Int32} {h : aH} {c s : Nat} (hl : l.stackTraces = false) (hv : V_L_law_1097 l G d mc ms P x1 x2 x3 x4 h c s) : T_L_law_1097 l G d mc ms P x1 x2 x3 x4 h c s := by
  intro hc hs
  unfold V_L_law_1097 at hv
  refine aw_aload_n 1 (x := x1) dL_law_1097 rfl rfl ?_
  obtain ⟨⟨fs, he⟩, hv⟩ := hv
  obtain ⟨d2, mc2, ms2, Q, hM, hd9, hc9, hs9, hv, hx⟩ := hv
  refine aw_callV (rest := []) hM he rfl rfl nX1_isSolved q670 q671 q672 q119 q673 dL_law_1098 rfl hd9 (by decide) (Nat.le_of_ble_eq_true rfl) hc9 hs9 ?_ ?_
  rotate_left
  · exact fun E h2 q => aX_out (hx E h2 q) rfl hc9 hs9
  intro v9 h310 hq
  have hv := hv v9 h310 hq
  obtain ⟨y309, rfl, hv⟩ := hv
  refine aw_eqv (pc2 := 1101) (st2 := [.int y309]) rfl rfl rfl rfl ?_
  revert hv hc9 hs9; generalize c + mc2 = c311; generalize s + ms2 = s312; intro hc9 hs9 hv
  refine aw_aload_n 2 (x := x2) dL_law_1101 rfl rfl ?_
  obtain ⟨⟨fs, he⟩, hv⟩ := hv
  obtain ⟨d2, mc2, ms2, Q, hM, hd9, hc9, hs9, hv, hx⟩ := hv
  refine aw_callV (rest := [.int y309]) hM he rfl rfl nX6_isSolved q2032 q2033 q2034 q137 q2035 dL_law_1102 rfl hd9 (by decide) (Nat.le_of_ble_eq_true rfl) hc9 hs9 ?_ ?_
  rotate_left
  · exact fun E h2 q => aX_out (hx E h2 q) rfl hc9 hs9
  intro v9 h314 hq
  have hv := hv v9 h314 hq
  obtain ⟨y313, rfl, hv⟩ := hv
  refine aw_eqv (pc2 := 1105) (st2 := [.int y313, .int y309]) rfl rfl rfl rfl ?_
  revert hv hc9 hs9; generalize c311 + mc2 = c315; generalize s312 + ms2 = s316; intro hc9 hs9 hv
  refine aw_icmp_eq 2161 dL_law_1105 (by decide) (fun c317 => ?_) (fun c317 => ?_)
  · have hv := hv.1 c317
    exact hv hc9 hs9
  · have hv := hv.2 c317
    refine aw_iconst (v := 0) dL_law_1108 (by decide) ?_
    exact aw_zret rfl rfl dL_law_1109 hv hc9 hs9
def V_L_law_1110 (l : Launch) (G : aG) (d mc ms : Nat) (P : aR → aH → Prop) (x1 : Nat) (x2 : Nat) (x3 : Nat) (x4 : Int32) (h : aH) (c s : Nat) : Prop :=
  vp_in (x4 + (1 : Int32)) G.2.2.2.1 ∧
  vC l G mX0_arrangements (wsX mX0_arrangements) d mc ms [.ref x1, .int (G.2.2.2.2 (x4 + (1 : Int32)).toNatClampNeg), .ref x3] h c s (xP P) (kI fun y319 h320 c321 s322 => 
  vp_in (x4 + (1 : Int32)) G.2.2.2.1 ∧
  vIs h320 x2 0 (
  vC l G mX6_arrangements (wsN mX6_arrangements) d mc ms [.ref x2, .int (G.2.2.2.2 (x4 + (1 : Int32)).toNatClampNeg)] h320 c321 s322 (xP P) (kI fun y324 h325 c326 s327 => 
  vIs h325 x2 0 (
  vC l G mX6_thrown (wsN mX6_thrown) d mc ms [.ref x2] h325 c326 s327 (xP P) (kI fun y328 h329 c330 s331 => 
  (y328 = y319 → 
    (¬ y319 = 0 → 
      T_L_law_2161 l G d mc ms P x1 x2 x3 x4 h329 c330 s331
      ) ∧ (y319 = 0 → 
      vAL h329 x3 (0 : Int32) fun y334 =>
      ((lg_cmp y334 y324.toInt64) = 0 → 
        T_L_law_2161 l G d mc ms P x1 x2 x3 x4 h329 c330 s331
        ) ∧ (¬ (lg_cmp y334 y324.toInt64) = 0 → 
        P (.inl (some (.int 0))) h329
        )
      )
    ) ∧ (¬ y328 = y319 → 
    P (.inl (some (.int 0))) h329
    ))))))
set_option maxHeartbeats 4000000 in
theorem A_L_law_1110 {l : Launch} {G : aG} {d mc ms : Nat} {P : aR → aH → Prop} {x1 : Nat} {x2 : Nat} {x3 : Nat} {x4 : Int32} {h : aH} {c s : Nat} (hl : l.stackTraces = false) (hv : V_L_law_1110 l G d mc ms P x1 x2 x3 x4 h c s) : T_L_law_1110 l G d mc ms P x1 x2 x3 x4 h c s := by
  intro hc hs
  unfold V_L_law_1110 at hv
  refine aw_aload_n 1 (x := x1) dL_law_1110 rfl rfl ?_
  refine aw_aload_n 0 (x := G.2.2.1) dL_law_1111 rfl rfl ?_
  refine aw_iload 4 dL_law_1112 rfl ?_
  refine aw_iconst (v := 1) dL_law_1114 (by decide) ?_
  refine aw_iadd dL_law_1115 ?_
  obtain ⟨z318, hv⟩ := hv
  refine aw_sld z318 dL_law_1116 ?_
  refine aw_aload_n 3 (x := x3) dL_law_1117 rfl rfl ?_
  obtain ⟨d2, mc2, ms2, Q, hM, hd9, hc9, hs9, hv, hx⟩ := hv
  refine aw_callSW (rest := []) hM nX0_arrangements q1512 q1513 q118 q1514 dL_law_1118 rfl hd9 (by decide) (Nat.le_of_ble_eq_true rfl) hc9 hs9 ?_ ?_
  rotate_left
  · exact fun E h2 q => aX_out (hx E h2 q) rfl hc9 hs9
  intro v9 h320 hq
  have hv := hv v9 h320 hq
  obtain ⟨y319, rfl, hv⟩ := hv
  refine aw_eqv (pc2 := 1121) (st2 := [.int y319]) rfl rfl rfl rfl ?_
  revert hv hc9 hs9; generalize c + mc2 = c321; generalize s + ms2 = s322; intro hc9 hs9 hv
  refine aw_istore (lv' := [(5, .int y319), (0, .ref G.2.2.1), (1, .ref x1), (2, .ref x2), (3, .ref x3), (4, .int x4)]) dL_law_1121 (Nat.le_of_ble_eq_true rfl) rfl ?_
  refine aw_aload_n 3 (x := x2) dL_law_1123 rfl rfl ?_
  refine aw_aload_n 1 (x := G.2.2.1) dL_law_1124 rfl rfl ?_
  refine aw_iload 5 dL_law_1125 rfl ?_
  refine aw_iconst (v := 1) dL_law_1127 (by decide) ?_
  refine aw_iadd dL_law_1128 ?_
  obtain ⟨z323, hv⟩ := hv
  refine aw_sld z323 dL_law_1129 ?_
  obtain ⟨⟨fs, he⟩, hv⟩ := hv
  obtain ⟨d2, mc2, ms2, Q, hM, hd9, hc9, hs9, hv, hx⟩ := hv
  refine aw_callV (rest := []) hM he rfl rfl nX6_arrangements q2040 q2041 q2042 q137 q2043 dL_law_1130 rfl hd9 (by decide) (Nat.le_of_ble_eq_true rfl) hc9 hs9 ?_ ?_
  rotate_left
  · exact fun E h2 q => aX_out (hx E h2 q) rfl hc9 hs9
  intro v9 h325 hq
  have hv := hv v9 h325 hq
  obtain ⟨y324, rfl, hv⟩ := hv
  refine aw_eqv (pc2 := 1133) (st2 := [.int y324]) rfl rfl rfl rfl ?_
  revert hv hc9 hs9; generalize c321 + mc2 = c326; generalize s322 + ms2 = s327; intro hc9 hs9 hv
  refine aw_istore (lv' := [(6, .int y324), (5, .int y319), (0, .ref G.2.2.1), (1, .ref x1), (2, .ref x2), (3, .ref x3), (4, .int x4)]) dL_law_1133 (Nat.le_of_ble_eq_true rfl) rfl ?_
  refine aw_aload_n 4 (x := x2) dL_law_1135 rfl rfl ?_
  obtain ⟨⟨fs, he⟩, hv⟩ := hv
  obtain ⟨d2, mc2, ms2, Q, hM, hd9, hc9, hs9, hv, hx⟩ := hv
  refine aw_callV (rest := []) hM he rfl rfl nX6_thrown q1814 q1815 q1816 q137 q1817 dL_law_1136 rfl hd9 (by decide) (Nat.le_of_ble_eq_true rfl) hc9 hs9 ?_ ?_
  rotate_left
  · exact fun E h2 q => aX_out (hx E h2 q) rfl hc9 hs9
  intro v9 h329 hq
  have hv := hv v9 h329 hq
  obtain ⟨y328, rfl, hv⟩ := hv
  refine aw_eqv (pc2 := 1139) (st2 := [.int y328]) rfl rfl rfl rfl ?_
  revert hv hc9 hs9; generalize c326 + mc2 = c330; generalize s327 + ms2 = s331; intro hc9 hs9 hv
  refine aw_iload 1 dL_law_1139 rfl ?_
  refine aw_icmp_eq 1146 dL_law_1141 (by decide) (fun c332 => ?_) (fun c332 => ?_)
  · have hv := hv.1 c332
    refine aw_iload 1 dL_law_1146 rfl ?_
    refine aw_if_ne 1163 dL_law_1148 (by decide) (fun c333 => ?_) (fun c333 => ?_)
    · have hv := hv.1 c333
      refine aw_goto 2161 dL_law_1163 (by decide) ?_
      refine aw_sub [2, 3, 4, 5, 6] rfl ?_
      exact hv hc9 hs9
    · have hv := hv.2 c333
      refine aw_aload_n 5 (x := x3) dL_law_1151 rfl rfl ?_
      refine aw_iconst (v := 0) dL_law_1152 (by decide) ?_
      obtain ⟨n9, f9, he, hin, hv⟩ := hv
      refine aw_lald he hin dL_law_1153 ?_
      revert hv; generalize f9 ((0 : Int32)).toNatClampNeg = y334; intro hv
      refine aw_iload 0 dL_law_1154 rfl ?_
      refine aw_i2l dL_law_1156 ?_
      refine aw_lcmp dL_law_1157 ?_
      refine aw_if_eq 1163 dL_law_1158 (by decide) (fun c335 => ?_) (fun c335 => ?_)
      · have hv := hv.1 c335
        refine aw_goto 2161 dL_law_1163 (by decide) ?_
        refine aw_sub [2, 3, 4, 5, 6] rfl ?_
        exact hv hc9 hs9
      · have hv := hv.2 c335
        refine aw_iconst (v := 0) dL_law_1161 (by decide) ?_
        exact aw_zret rfl rfl dL_law_1162 hv hc9 hs9
  · have hv := hv.2 c332
    refine aw_iconst (v := 0) dL_law_1144 (by decide) ?_
    exact aw_zret rfl rfl dL_law_1145 hv hc9 hs9
def V_L_law_1166 (l : Launch) (G : aG) (d mc ms : Nat) (P : aR → aH → Prop) (x1 : Nat) (x2 : Nat) (x3 : Nat) (x4 : Int32) (h : aH) (c s : Nat) : Prop :=
  vp_in (x4 + (1 : Int32)) G.2.2.2.1 ∧
  vC l G mX0_arrangementsByCells (wsX mX0_arrangementsByCells) d mc ms [.ref x1, .int (G.2.2.2.2 (x4 + (1 : Int32)).toNatClampNeg), .ref x3] h c s (xP P) (kI fun y337 h338 c339 s340 => 
  vp_in (x4 + (1 : Int32)) G.2.2.2.1 ∧
  vIs h338 x2 0 (
  vC l G mX6_arrangementsByCells (wsN mX6_arrangementsByCells) d mc ms [.ref x2, .int (G.2.2.2.2 (x4 + (1 : Int32)).toNatClampNeg)] h338 c339 s340 (xP P) (kI fun y342 h343 c344 s345 => 
  vIs h343 x2 0 (
  vC l G mX6_thrown (wsN mX6_thrown) d mc ms [.ref x2] h343 c344 s345 (xP P) (kI fun y346 h347 c348 s349 => 
  (y346 = y337 → 
    (¬ y337 = 0 → 
      T_L_law_2161 l G d mc ms P x1 x2 x3 x4 h347 c348 s349
      ) ∧ (y337 = 0 → 
      vAL h347 x3 (0 : Int32) fun y352 =>
      ((lg_cmp y352 y342.toInt64) = 0 → 
        T_L_law_2161 l G d mc ms P x1 x2 x3 x4 h347 c348 s349
        ) ∧ (¬ (lg_cmp y352 y342.toInt64) = 0 → 
        P (.inl (some (.int 0))) h347
        )
      )
    ) ∧ (¬ y346 = y337 → 
    P (.inl (some (.int 0))) h347
    ))))))
set_option maxHeartbeats 4000000 in
theorem A_L_law_1166 {l : Launch} {G : aG} {d mc ms : Nat} {P : aR → aH → Prop} {x1 : Nat} {x2 : Nat} {x3 : Nat} {x4 : Int32} {h : aH} {c s : Nat} (hl : l.stackTraces = false) (hv : V_L_law_1166 l G d mc ms P x1 x2 x3 x4 h c s) : T_L_law_1166 l G d mc ms P x1 x2 x3 x4 h c s := by
  intro hc hs
  unfold V_L_law_1166 at hv
  refine aw_aload_n 1 (x := x1) dL_law_1166 rfl rfl ?_
  refine aw_aload_n 0 (x := G.2.2.1) dL_law_1167 rfl rfl ?_
  refine aw_iload 4 dL_law_1168 rfl ?_
  refine aw_iconst (v := 1) dL_law_1170 (by decide) ?_
  refine aw_iadd dL_law_1171 ?_
  obtain ⟨z336, hv⟩ := hv
  refine aw_sld z336 dL_law_1172 ?_
  refine aw_aload_n 3 (x := x3) dL_law_1173 rfl rfl ?_
  obtain ⟨d2, mc2, ms2, Q, hM, hd9, hc9, hs9, hv, hx⟩ := hv
  refine aw_callSW (rest := []) hM nX0_arrangementsByCells q1569 q1570 q118 q1571 dL_law_1174 rfl hd9 (by decide) (Nat.le_of_ble_eq_true rfl) hc9 hs9 ?_ ?_
  rotate_left
  · exact fun E h2 q => aX_out (hx E h2 q) rfl hc9 hs9
  intro v9 h338 hq
  have hv := hv v9 h338 hq
  obtain ⟨y337, rfl, hv⟩ := hv
  refine aw_eqv (pc2 := 1177) (st2 := [.int y337]) rfl rfl rfl rfl ?_
  revert hv hc9 hs9; generalize c + mc2 = c339; generalize s + ms2 = s340; intro hc9 hs9 hv
  refine aw_istore (lv' := [(5, .int y337), (0, .ref G.2.2.1), (1, .ref x1), (2, .ref x2), (3, .ref x3), (4, .int x4)]) dL_law_1177 (Nat.le_of_ble_eq_true rfl) rfl ?_
  refine aw_aload_n 3 (x := x2) dL_law_1179 rfl rfl ?_
  refine aw_aload_n 1 (x := G.2.2.1) dL_law_1180 rfl rfl ?_
  refine aw_iload 5 dL_law_1181 rfl ?_
  refine aw_iconst (v := 1) dL_law_1183 (by decide) ?_
  refine aw_iadd dL_law_1184 ?_
  obtain ⟨z341, hv⟩ := hv
  refine aw_sld z341 dL_law_1185 ?_
  obtain ⟨⟨fs, he⟩, hv⟩ := hv
  obtain ⟨d2, mc2, ms2, Q, hM, hd9, hc9, hs9, hv, hx⟩ := hv
  refine aw_callV (rest := []) hM he rfl rfl nX6_arrangementsByCells q2044 q2045 q2046 q137 q2047 dL_law_1186 rfl hd9 (by decide) (Nat.le_of_ble_eq_true rfl) hc9 hs9 ?_ ?_
  rotate_left
  · exact fun E h2 q => aX_out (hx E h2 q) rfl hc9 hs9
  intro v9 h343 hq
  have hv := hv v9 h343 hq
  obtain ⟨y342, rfl, hv⟩ := hv
  refine aw_eqv (pc2 := 1189) (st2 := [.int y342]) rfl rfl rfl rfl ?_
  revert hv hc9 hs9; generalize c339 + mc2 = c344; generalize s340 + ms2 = s345; intro hc9 hs9 hv
  refine aw_istore (lv' := [(6, .int y342), (5, .int y337), (0, .ref G.2.2.1), (1, .ref x1), (2, .ref x2), (3, .ref x3), (4, .int x4)]) dL_law_1189 (Nat.le_of_ble_eq_true rfl) rfl ?_
  refine aw_aload_n 4 (x := x2) dL_law_1191 rfl rfl ?_
  obtain ⟨⟨fs, he⟩, hv⟩ := hv
  obtain ⟨d2, mc2, ms2, Q, hM, hd9, hc9, hs9, hv, hx⟩ := hv
  refine aw_callV (rest := []) hM he rfl rfl nX6_thrown q1814 q1815 q1816 q137 q1817 dL_law_1192 rfl hd9 (by decide) (Nat.le_of_ble_eq_true rfl) hc9 hs9 ?_ ?_
  rotate_left
  · exact fun E h2 q => aX_out (hx E h2 q) rfl hc9 hs9
  intro v9 h347 hq
  have hv := hv v9 h347 hq
  obtain ⟨y346, rfl, hv⟩ := hv
  refine aw_eqv (pc2 := 1195) (st2 := [.int y346]) rfl rfl rfl rfl ?_
  revert hv hc9 hs9; generalize c344 + mc2 = c348; generalize s345 + ms2 = s349; intro hc9 hs9 hv
  refine aw_iload 1 dL_law_1195 rfl ?_
  refine aw_icmp_eq 1202 dL_law_1197 (by decide) (fun c350 => ?_) (fun c350 => ?_)
  · have hv := hv.1 c350
    refine aw_iload 1 dL_law_1202 rfl ?_
    refine aw_if_ne 1219 dL_law_1204 (by decide) (fun c351 => ?_) (fun c351 => ?_)
    · have hv := hv.1 c351
      refine aw_goto 2161 dL_law_1219 (by decide) ?_
      refine aw_sub [2, 3, 4, 5, 6] rfl ?_
      exact hv hc9 hs9
    · have hv := hv.2 c351
      refine aw_aload_n 5 (x := x3) dL_law_1207 rfl rfl ?_
      refine aw_iconst (v := 0) dL_law_1208 (by decide) ?_
      obtain ⟨n9, f9, he, hin, hv⟩ := hv
      refine aw_lald he hin dL_law_1209 ?_
      revert hv; generalize f9 ((0 : Int32)).toNatClampNeg = y352; intro hv
      refine aw_iload 0 dL_law_1210 rfl ?_
      refine aw_i2l dL_law_1212 ?_
      refine aw_lcmp dL_law_1213 ?_
      refine aw_if_eq 1219 dL_law_1214 (by decide) (fun c353 => ?_) (fun c353 => ?_)
      · have hv := hv.1 c353
        refine aw_goto 2161 dL_law_1219 (by decide) ?_
        refine aw_sub [2, 3, 4, 5, 6] rfl ?_
        exact hv hc9 hs9
      · have hv := hv.2 c353
        refine aw_iconst (v := 0) dL_law_1217 (by decide) ?_
        exact aw_zret rfl rfl dL_law_1218 hv hc9 hs9
  · have hv := hv.2 c350
    refine aw_iconst (v := 0) dL_law_1200 (by decide) ?_
    exact aw_zret rfl rfl dL_law_1201 hv hc9 hs9
def V_L_law_1222 (l : Launch) (G : aG) (d mc ms : Nat) (P : aR → aH → Prop) (x1 : Nat) (x2 : Nat) (x3 : Nat) (x4 : Int32) (h : aH) (c s : Nat) : Prop :=
  vp_in (x4 + (1 : Int32)) G.2.2.2.1 ∧
  vp_in (x4 + (2 : Int32)) G.2.2.2.1 ∧
  vC l G mX0_thingsIn (wsX mX0_thingsIn) d mc ms [.ref x1, .int (G.2.2.2.2 (x4 + (1 : Int32)).toNatClampNeg), .int (G.2.2.2.2 (x4 + (2 : Int32)).toNatClampNeg), .ref x3] h c s (xP P) (kI fun y356 h357 c358 s359 => 
  vp_in (x4 + (1 : Int32)) G.2.2.2.1 ∧
  vp_in (x4 + (2 : Int32)) G.2.2.2.1 ∧
  vIs h357 x2 0 (
  vC l G mX6_thingsIn (wsN mX6_thingsIn) d mc ms [.ref x2, .int (G.2.2.2.2 (x4 + (1 : Int32)).toNatClampNeg), .int (G.2.2.2.2 (x4 + (2 : Int32)).toNatClampNeg)] h357 c358 s359 (xP P) (kI fun y362 h363 c364 s365 => 
  vIs h363 x2 0 (
  vC l G mX6_thrown (wsN mX6_thrown) d mc ms [.ref x2] h363 c364 s365 (xP P) (kI fun y366 h367 c368 s369 => 
  (y366 = y356 → 
    (¬ y356 = 0 → 
      T_L_law_2161 l G d mc ms P x1 x2 x3 x4 h367 c368 s369
      ) ∧ (y356 = 0 → 
      vAL h367 x3 (0 : Int32) fun y372 =>
      ((lg_cmp y372 y362.toInt64) = 0 → 
        T_L_law_2161 l G d mc ms P x1 x2 x3 x4 h367 c368 s369
        ) ∧ (¬ (lg_cmp y372 y362.toInt64) = 0 → 
        P (.inl (some (.int 0))) h367
        )
      )
    ) ∧ (¬ y366 = y356 → 
    P (.inl (some (.int 0))) h367
    ))))))
set_option maxHeartbeats 4000000 in
theorem A_L_law_1222 {l : Launch} {G : aG} {d mc ms : Nat} {P : aR → aH → Prop} {x1 : Nat} {x2 : Nat} {x3 : Nat} {x4 : Int32} {h : aH} {c s : Nat} (hl : l.stackTraces = false) (hv : V_L_law_1222 l G d mc ms P x1 x2 x3 x4 h c s) : T_L_law_1222 l G d mc ms P x1 x2 x3 x4 h c s := by
  intro hc hs
  unfold V_L_law_1222 at hv
  refine aw_aload_n 1 (x := x1) dL_law_1222 rfl rfl ?_
  refine aw_aload_n 0 (x := G.2.2.1) dL_law_1223 rfl rfl ?_
  refine aw_iload 4 dL_law_1224 rfl ?_
  refine aw_iconst (v := 1) dL_law_1226 (by decide) ?_
  refine aw_iadd dL_law_1227 ?_
  obtain ⟨z354, hv⟩ := hv
  refine aw_sld z354 dL_law_1228 ?_
  refine aw_aload_n 0 (x := G.2.2.1) dL_law_1229 rfl rfl ?_
  refine aw_iload 4 dL_law_1230 rfl ?_
  refine aw_iconst (v := 2) dL_law_1232 (by decide) ?_
  refine aw_iadd dL_law_1233 ?_
  obtain ⟨z355, hv⟩ := hv
  refine aw_sld z355 dL_law_1234 ?_
  refine aw_aload_n 3 (x := x3) dL_law_1235 rfl rfl ?_
  obtain ⟨d2, mc2, ms2, Q, hM, hd9, hc9, hs9, hv, hx⟩ := hv
  refine aw_callSW (rest := []) hM nX0_thingsIn q1581 q1582 q118 q1583 dL_law_1236 rfl hd9 (by decide) (Nat.le_of_ble_eq_true rfl) hc9 hs9 ?_ ?_
  rotate_left
  · exact fun E h2 q => aX_out (hx E h2 q) rfl hc9 hs9
  intro v9 h357 hq
  have hv := hv v9 h357 hq
  obtain ⟨y356, rfl, hv⟩ := hv
  refine aw_eqv (pc2 := 1239) (st2 := [.int y356]) rfl rfl rfl rfl ?_
  revert hv hc9 hs9; generalize c + mc2 = c358; generalize s + ms2 = s359; intro hc9 hs9 hv
  refine aw_istore (lv' := [(5, .int y356), (0, .ref G.2.2.1), (1, .ref x1), (2, .ref x2), (3, .ref x3), (4, .int x4)]) dL_law_1239 (Nat.le_of_ble_eq_true rfl) rfl ?_
  refine aw_aload_n 3 (x := x2) dL_law_1241 rfl rfl ?_
  refine aw_aload_n 1 (x := G.2.2.1) dL_law_1242 rfl rfl ?_
  refine aw_iload 5 dL_law_1243 rfl ?_
  refine aw_iconst (v := 1) dL_law_1245 (by decide) ?_
  refine aw_iadd dL_law_1246 ?_
  obtain ⟨z360, hv⟩ := hv
  refine aw_sld z360 dL_law_1247 ?_
  refine aw_aload_n 1 (x := G.2.2.1) dL_law_1248 rfl rfl ?_
  refine aw_iload 5 dL_law_1249 rfl ?_
  refine aw_iconst (v := 2) dL_law_1251 (by decide) ?_
  refine aw_iadd dL_law_1252 ?_
  obtain ⟨z361, hv⟩ := hv
  refine aw_sld z361 dL_law_1253 ?_
  obtain ⟨⟨fs, he⟩, hv⟩ := hv
  obtain ⟨d2, mc2, ms2, Q, hM, hd9, hc9, hs9, hv, hx⟩ := hv
  refine aw_callV (rest := []) hM he rfl rfl nX6_thingsIn q2055 q2056 q2057 q137 q2058 dL_law_1254 rfl hd9 (by decide) (Nat.le_of_ble_eq_true rfl) hc9 hs9 ?_ ?_
  rotate_left
  · exact fun E h2 q => aX_out (hx E h2 q) rfl hc9 hs9
  intro v9 h363 hq
  have hv := hv v9 h363 hq
  obtain ⟨y362, rfl, hv⟩ := hv
  refine aw_eqv (pc2 := 1257) (st2 := [.int y362]) rfl rfl rfl rfl ?_
  revert hv hc9 hs9; generalize c358 + mc2 = c364; generalize s359 + ms2 = s365; intro hc9 hs9 hv
  refine aw_istore (lv' := [(6, .int y362), (5, .int y356), (0, .ref G.2.2.1), (1, .ref x1), (2, .ref x2), (3, .ref x3), (4, .int x4)]) dL_law_1257 (Nat.le_of_ble_eq_true rfl) rfl ?_
  refine aw_aload_n 4 (x := x2) dL_law_1259 rfl rfl ?_
  obtain ⟨⟨fs, he⟩, hv⟩ := hv
  obtain ⟨d2, mc2, ms2, Q, hM, hd9, hc9, hs9, hv, hx⟩ := hv
  refine aw_callV (rest := []) hM he rfl rfl nX6_thrown q1814 q1815 q1816 q137 q1817 dL_law_1260 rfl hd9 (by decide) (Nat.le_of_ble_eq_true rfl) hc9 hs9 ?_ ?_
  rotate_left
  · exact fun E h2 q => aX_out (hx E h2 q) rfl hc9 hs9
  intro v9 h367 hq
  have hv := hv v9 h367 hq
  obtain ⟨y366, rfl, hv⟩ := hv
  refine aw_eqv (pc2 := 1263) (st2 := [.int y366]) rfl rfl rfl rfl ?_
  revert hv hc9 hs9; generalize c364 + mc2 = c368; generalize s365 + ms2 = s369; intro hc9 hs9 hv
  refine aw_iload 1 dL_law_1263 rfl ?_
  refine aw_icmp_eq 1270 dL_law_1265 (by decide) (fun c370 => ?_) (fun c370 => ?_)
  · have hv := hv.1 c370
    refine aw_iload 1 dL_law_1270 rfl ?_
    refine aw_if_ne 1287 dL_law_1272 (by decide) (fun c371 => ?_) (fun c371 => ?_)
    · have hv := hv.1 c371
      refine aw_goto 2161 dL_law_1287 (by decide) ?_
      refine aw_sub [2, 3, 4, 5, 6] rfl ?_
      exact hv hc9 hs9
    · have hv := hv.2 c371
      refine aw_aload_n 5 (x := x3) dL_law_1275 rfl rfl ?_
      refine aw_iconst (v := 0) dL_law_1276 (by decide) ?_
      obtain ⟨n9, f9, he, hin, hv⟩ := hv
      refine aw_lald he hin dL_law_1277 ?_
      revert hv; generalize f9 ((0 : Int32)).toNatClampNeg = y372; intro hv
      refine aw_iload 0 dL_law_1278 rfl ?_
      refine aw_i2l dL_law_1280 ?_
      refine aw_lcmp dL_law_1281 ?_
      refine aw_if_eq 1287 dL_law_1282 (by decide) (fun c373 => ?_) (fun c373 => ?_)
      · have hv := hv.1 c373
        refine aw_goto 2161 dL_law_1287 (by decide) ?_
        refine aw_sub [2, 3, 4, 5, 6] rfl ?_
        exact hv hc9 hs9
      · have hv := hv.2 c373
        refine aw_iconst (v := 0) dL_law_1285 (by decide) ?_
        exact aw_zret rfl rfl dL_law_1286 hv hc9 hs9
  · have hv := hv.2 c370
    refine aw_iconst (v := 0) dL_law_1268 (by decide) ?_
    exact aw_zret rfl rfl dL_law_1269 hv hc9 hs9
def V_L_law_1290 (l : Launch) (G : aG) (d mc ms : Nat) (P : aR → aH → Prop) (x1 : Nat) (x2 : Nat) (x3 : Nat) (x4 : Int32) (h : aH) (c s : Nat) : Prop :=
  vIs h x1 1 (
  vC l G mX1_brokenLines (wsN mX1_brokenLines) d mc ms [.ref x1] h c s (xP P) (kI fun y374 h375 c376 s377 => 
  vIs h375 x2 0 (
  vC l G mX6_brokenLines (wsN mX6_brokenLines) d mc ms [.ref x2] h375 c376 s377 (xP P) (kI fun y378 h379 c380 s381 => 
  (y374 = y378 → 
    T_L_law_2161 l G d mc ms P x1 x2 x3 x4 h379 c380 s381
    ) ∧ (¬ y374 = y378 → 
    P (.inl (some (.int 0))) h379
    )))))
set_option maxHeartbeats 4000000 in
theorem A_L_law_1290 {l : Launch} {G : aG} {d mc ms : Nat} {P : aR → aH → Prop} {x1 : Nat} {x2 : Nat} {x3 : Nat} {x4 : Int32} {h : aH} {c s : Nat} (hl : l.stackTraces = false) (hv : V_L_law_1290 l G d mc ms P x1 x2 x3 x4 h c s) : T_L_law_1290 l G d mc ms P x1 x2 x3 x4 h c s := by
  intro hc hs
  unfold V_L_law_1290 at hv
  refine aw_aload_n 1 (x := x1) dL_law_1290 rfl rfl ?_
  obtain ⟨⟨fs, he⟩, hv⟩ := hv
  obtain ⟨d2, mc2, ms2, Q, hM, hd9, hc9, hs9, hv, hx⟩ := hv
  refine aw_callV (rest := []) hM he rfl rfl nX1_brokenLines q680 q681 q682 q119 q683 dL_law_1291 rfl hd9 (by decide) (Nat.le_of_ble_eq_true rfl) hc9 hs9 ?_ ?_
  rotate_left
  · exact fun E h2 q => aX_out (hx E h2 q) rfl hc9 hs9
  intro v9 h375 hq
  have hv := hv v9 h375 hq
  obtain ⟨y374, rfl, hv⟩ := hv
  refine aw_eqv (pc2 := 1294) (st2 := [.int y374]) rfl rfl rfl rfl ?_
  revert hv hc9 hs9; generalize c + mc2 = c376; generalize s + ms2 = s377; intro hc9 hs9 hv
  refine aw_aload_n 2 (x := x2) dL_law_1294 rfl rfl ?_
  obtain ⟨⟨fs, he⟩, hv⟩ := hv
  obtain ⟨d2, mc2, ms2, Q, hM, hd9, hc9, hs9, hv, hx⟩ := hv
  refine aw_callV (rest := [.int y374]) hM he rfl rfl nX6_brokenLines q2059 q2060 q2061 q137 q2062 dL_law_1295 rfl hd9 (by decide) (Nat.le_of_ble_eq_true rfl) hc9 hs9 ?_ ?_
  rotate_left
  · exact fun E h2 q => aX_out (hx E h2 q) rfl hc9 hs9
  intro v9 h379 hq
  have hv := hv v9 h379 hq
  obtain ⟨y378, rfl, hv⟩ := hv
  refine aw_eqv (pc2 := 1298) (st2 := [.int y378, .int y374]) rfl rfl rfl rfl ?_
  revert hv hc9 hs9; generalize c376 + mc2 = c380; generalize s377 + ms2 = s381; intro hc9 hs9 hv
  refine aw_icmp_eq 2161 dL_law_1298 (by decide) (fun c382 => ?_) (fun c382 => ?_)
  · have hv := hv.1 c382
    exact hv hc9 hs9
  · have hv := hv.2 c382
    refine aw_iconst (v := 0) dL_law_1301 (by decide) ?_
    exact aw_zret rfl rfl dL_law_1302 hv hc9 hs9
def V_L_law_1303 (l : Launch) (G : aG) (d mc ms : Nat) (P : aR → aH → Prop) (x1 : Nat) (x2 : Nat) (x3 : Nat) (x4 : Int32) (h : aH) (c s : Nat) : Prop :=
  vp_in (x4 + (1 : Int32)) G.2.2.2.1 ∧
  vp_in (x4 + (2 : Int32)) G.2.2.2.1 ∧
  vC l G mX0_seenFrom (wsX mX0_seenFrom) d mc ms [.ref x1, .int (G.2.2.2.2 (x4 + (1 : Int32)).toNatClampNeg), .int (G.2.2.2.2 (x4 + (2 : Int32)).toNatClampNeg), .ref x3] h c s (xP P) (kI fun y385 h386 c387 s388 => 
  vp_in (x4 + (1 : Int32)) G.2.2.2.1 ∧
  vp_in (x4 + (2 : Int32)) G.2.2.2.1 ∧
  vIs h386 x2 0 (
  vC l G mX6_seenFrom (wsN mX6_seenFrom) d mc ms [.ref x2, .int (G.2.2.2.2 (x4 + (1 : Int32)).toNatClampNeg), .int (G.2.2.2.2 (x4 + (2 : Int32)).toNatClampNeg)] h386 c387 s388 (xP P) (kI fun y391 h392 c393 s394 => 
  vIs h392 x2 0 (
  vC l G mX6_thrown (wsN mX6_thrown) d mc ms [.ref x2] h392 c393 s394 (xP P) (kI fun y395 h396 c397 s398 => 
  (y395 = y385 → 
    (¬ y385 = 0 → 
      T_L_law_2161 l G d mc ms P x1 x2 x3 x4 h396 c397 s398
      ) ∧ (y385 = 0 → 
      vAL h396 x3 (0 : Int32) fun y401 =>
      ((lg_cmp y401 y391.toInt64) = 0 → 
        T_L_law_2161 l G d mc ms P x1 x2 x3 x4 h396 c397 s398
        ) ∧ (¬ (lg_cmp y401 y391.toInt64) = 0 → 
        P (.inl (some (.int 0))) h396
        )
      )
    ) ∧ (¬ y395 = y385 → 
    P (.inl (some (.int 0))) h396
    ))))))
set_option maxHeartbeats 4000000 in
theorem A_L_law_1303 {l : Launch} {G : aG} {d mc ms : Nat} {P : aR → aH → Prop} {x1 : Nat} {x2 : Nat} {x3 : Nat} {x4 : Int32} {h : aH} {c s : Nat} (hl : l.stackTraces = false) (hv : V_L_law_1303 l G d mc ms P x1 x2 x3 x4 h c s) : T_L_law_1303 l G d mc ms P x1 x2 x3 x4 h c s := by
  intro hc hs
  unfold V_L_law_1303 at hv
  refine aw_aload_n 1 (x := x1) dL_law_1303 rfl rfl ?_
  refine aw_aload_n 0 (x := G.2.2.1) dL_law_1304 rfl rfl ?_
  refine aw_iload 4 dL_law_1305 rfl ?_
  refine aw_iconst (v := 1) dL_law_1307 (by decide) ?_
  refine aw_iadd dL_law_1308 ?_
  obtain ⟨z383, hv⟩ := hv
  refine aw_sld z383 dL_law_1309 ?_
  refine aw_aload_n 0 (x := G.2.2.1) dL_law_1310 rfl rfl ?_
  refine aw_iload 4 dL_law_1311 rfl ?_
  refine aw_iconst (v := 2) dL_law_1313 (by decide) ?_
  refine aw_iadd dL_law_1314 ?_
  obtain ⟨z384, hv⟩ := hv
  refine aw_sld z384 dL_law_1315 ?_
  refine aw_aload_n 3 (x := x3) dL_law_1316 rfl rfl ?_
  obtain ⟨d2, mc2, ms2, Q, hM, hd9, hc9, hs9, hv, hx⟩ := hv
  refine aw_callSW (rest := []) hM nX0_seenFrom q1589 q1590 q118 q1591 dL_law_1317 rfl hd9 (by decide) (Nat.le_of_ble_eq_true rfl) hc9 hs9 ?_ ?_
  rotate_left
  · exact fun E h2 q => aX_out (hx E h2 q) rfl hc9 hs9
  intro v9 h386 hq
  have hv := hv v9 h386 hq
  obtain ⟨y385, rfl, hv⟩ := hv
  refine aw_eqv (pc2 := 1320) (st2 := [.int y385]) rfl rfl rfl rfl ?_
  revert hv hc9 hs9; generalize c + mc2 = c387; generalize s + ms2 = s388; intro hc9 hs9 hv
  refine aw_istore (lv' := [(5, .int y385), (0, .ref G.2.2.1), (1, .ref x1), (2, .ref x2), (3, .ref x3), (4, .int x4)]) dL_law_1320 (Nat.le_of_ble_eq_true rfl) rfl ?_
  refine aw_aload_n 3 (x := x2) dL_law_1322 rfl rfl ?_
  refine aw_aload_n 1 (x := G.2.2.1) dL_law_1323 rfl rfl ?_
  refine aw_iload 5 dL_law_1324 rfl ?_
  refine aw_iconst (v := 1) dL_law_1326 (by decide) ?_
  refine aw_iadd dL_law_1327 ?_
  obtain ⟨z389, hv⟩ := hv
  refine aw_sld z389 dL_law_1328 ?_
  refine aw_aload_n 1 (x := G.2.2.1) dL_law_1329 rfl rfl ?_
  refine aw_iload 5 dL_law_1330 rfl ?_
  refine aw_iconst (v := 2) dL_law_1332 (by decide) ?_
  refine aw_iadd dL_law_1333 ?_
  obtain ⟨z390, hv⟩ := hv
  refine aw_sld z390 dL_law_1334 ?_
  obtain ⟨⟨fs, he⟩, hv⟩ := hv
  obtain ⟨d2, mc2, ms2, Q, hM, hd9, hc9, hs9, hv, hx⟩ := hv
  refine aw_callV (rest := []) hM he rfl rfl nX6_seenFrom q2063 q2064 q2065 q137 q2066 dL_law_1335 rfl hd9 (by decide) (Nat.le_of_ble_eq_true rfl) hc9 hs9 ?_ ?_
  rotate_left
  · exact fun E h2 q => aX_out (hx E h2 q) rfl hc9 hs9
  intro v9 h392 hq
  have hv := hv v9 h392 hq
  obtain ⟨y391, rfl, hv⟩ := hv
  refine aw_eqv (pc2 := 1338) (st2 := [.int y391]) rfl rfl rfl rfl ?_
  revert hv hc9 hs9; generalize c387 + mc2 = c393; generalize s388 + ms2 = s394; intro hc9 hs9 hv
  refine aw_istore (lv' := [(6, .int y391), (5, .int y385), (0, .ref G.2.2.1), (1, .ref x1), (2, .ref x2), (3, .ref x3), (4, .int x4)]) dL_law_1338 (Nat.le_of_ble_eq_true rfl) rfl ?_
  refine aw_aload_n 4 (x := x2) dL_law_1340 rfl rfl ?_
  obtain ⟨⟨fs, he⟩, hv⟩ := hv
  obtain ⟨d2, mc2, ms2, Q, hM, hd9, hc9, hs9, hv, hx⟩ := hv
  refine aw_callV (rest := []) hM he rfl rfl nX6_thrown q1814 q1815 q1816 q137 q1817 dL_law_1341 rfl hd9 (by decide) (Nat.le_of_ble_eq_true rfl) hc9 hs9 ?_ ?_
  rotate_left
  · exact fun E h2 q => aX_out (hx E h2 q) rfl hc9 hs9
  intro v9 h396 hq
  have hv := hv v9 h396 hq
  obtain ⟨y395, rfl, hv⟩ := hv
  refine aw_eqv (pc2 := 1344) (st2 := [.int y395]) rfl rfl rfl rfl ?_
  revert hv hc9 hs9; generalize c393 + mc2 = c397; generalize s394 + ms2 = s398; intro hc9 hs9 hv
  refine aw_iload 1 dL_law_1344 rfl ?_
  refine aw_icmp_eq 1351 dL_law_1346 (by decide) (fun c399 => ?_) (fun c399 => ?_)
  · have hv := hv.1 c399
    refine aw_iload 1 dL_law_1351 rfl ?_
    refine aw_if_ne 1368 dL_law_1353 (by decide) (fun c400 => ?_) (fun c400 => ?_)
    · have hv := hv.1 c400
      refine aw_goto 2161 dL_law_1368 (by decide) ?_
      refine aw_sub [2, 3, 4, 5, 6] rfl ?_
      exact hv hc9 hs9
    · have hv := hv.2 c400
      refine aw_aload_n 5 (x := x3) dL_law_1356 rfl rfl ?_
      refine aw_iconst (v := 0) dL_law_1357 (by decide) ?_
      obtain ⟨n9, f9, he, hin, hv⟩ := hv
      refine aw_lald he hin dL_law_1358 ?_
      revert hv; generalize f9 ((0 : Int32)).toNatClampNeg = y401; intro hv
      refine aw_iload 0 dL_law_1359 rfl ?_
      refine aw_i2l dL_law_1361 ?_
      refine aw_lcmp dL_law_1362 ?_
      refine aw_if_eq 1368 dL_law_1363 (by decide) (fun c402 => ?_) (fun c402 => ?_)
      · have hv := hv.1 c402
        refine aw_goto 2161 dL_law_1368 (by decide) ?_
        refine aw_sub [2, 3, 4, 5, 6] rfl ?_
        exact hv hc9 hs9
      · have hv := hv.2 c402
        refine aw_iconst (v := 0) dL_law_1366 (by decide) ?_
        exact aw_zret rfl rfl dL_law_1367 hv hc9 hs9
  · have hv := hv.2 c399
    refine aw_iconst (v := 0) dL_law_1349 (by decide) ?_
    exact aw_zret rfl rfl dL_law_1350 hv hc9 hs9
def V_L_law_1371 (l : Launch) (G : aG) (d mc ms : Nat) (P : aR → aH → Prop) (x1 : Nat) (x2 : Nat) (x3 : Nat) (x4 : Int32) (h : aH) (c s : Nat) : Prop :=
  vp_in (x4 + (1 : Int32)) G.2.2.2.1 ∧
  vp_in (x4 + (2 : Int32)) G.2.2.2.1 ∧
  vC l G mX0_reasonFor (wsX mX0_reasonFor) d mc ms [.ref x1, .int (G.2.2.2.2 (x4 + (1 : Int32)).toNatClampNeg), .int (G.2.2.2.2 (x4 + (2 : Int32)).toNatClampNeg), .ref x3] h c s (xP P) (kI fun y405 h406 c407 s408 => 
  vp_in (x4 + (1 : Int32)) G.2.2.2.1 ∧
  vp_in (x4 + (2 : Int32)) G.2.2.2.1 ∧
  vIs h406 x2 0 (
  vC l G mX6_reasonFor (wsN mX6_reasonFor) d mc ms [.ref x2, .int (G.2.2.2.2 (x4 + (1 : Int32)).toNatClampNeg), .int (G.2.2.2.2 (x4 + (2 : Int32)).toNatClampNeg)] h406 c407 s408 (xP P) (kI fun y411 h412 c413 s414 => 
  vIs h412 x2 0 (
  vC l G mX6_thrown (wsN mX6_thrown) d mc ms [.ref x2] h412 c413 s414 (xP P) (kI fun y415 h416 c417 s418 => 
  (y415 = y405 → 
    (¬ y405 = 0 → 
      T_L_law_2161 l G d mc ms P x1 x2 x3 x4 h416 c417 s418
      ) ∧ (y405 = 0 → 
      vAL h416 x3 (0 : Int32) fun y421 =>
      ((lg_cmp y421 y411.toInt64) = 0 → 
        T_L_law_2161 l G d mc ms P x1 x2 x3 x4 h416 c417 s418
        ) ∧ (¬ (lg_cmp y421 y411.toInt64) = 0 → 
        P (.inl (some (.int 0))) h416
        )
      )
    ) ∧ (¬ y415 = y405 → 
    P (.inl (some (.int 0))) h416
    ))))))
set_option maxHeartbeats 4000000 in
theorem A_L_law_1371 {l : Launch} {G : aG} {d mc ms : Nat} {P : aR → aH → Prop} {x1 : Nat} {x2 : Nat} {x3 : Nat} {x4 : Int32} {h : aH} {c s : Nat} (hl : l.stackTraces = false) (hv : V_L_law_1371 l G d mc ms P x1 x2 x3 x4 h c s) : T_L_law_1371 l G d mc ms P x1 x2 x3 x4 h c s := by
  intro hc hs
  unfold V_L_law_1371 at hv
  refine aw_aload_n 1 (x := x1) dL_law_1371 rfl rfl ?_
  refine aw_aload_n 0 (x := G.2.2.1) dL_law_1372 rfl rfl ?_
  refine aw_iload 4 dL_law_1373 rfl ?_
  refine aw_iconst (v := 1) dL_law_1375 (by decide) ?_
  refine aw_iadd dL_law_1376 ?_
  obtain ⟨z403, hv⟩ := hv
  refine aw_sld z403 dL_law_1377 ?_
  refine aw_aload_n 0 (x := G.2.2.1) dL_law_1378 rfl rfl ?_
  refine aw_iload 4 dL_law_1379 rfl ?_
  refine aw_iconst (v := 2) dL_law_1381 (by decide) ?_
  refine aw_iadd dL_law_1382 ?_
  obtain ⟨z404, hv⟩ := hv
  refine aw_sld z404 dL_law_1383 ?_
  refine aw_aload_n 3 (x := x3) dL_law_1384 rfl rfl ?_
  obtain ⟨d2, mc2, ms2, Q, hM, hd9, hc9, hs9, hv, hx⟩ := hv
  refine aw_callSW (rest := []) hM nX0_reasonFor q1596 q1597 q118 q1598 dL_law_1385 rfl hd9 (by decide) (Nat.le_of_ble_eq_true rfl) hc9 hs9 ?_ ?_
  rotate_left
  · exact fun E h2 q => aX_out (hx E h2 q) rfl hc9 hs9
  intro v9 h406 hq
  have hv := hv v9 h406 hq
  obtain ⟨y405, rfl, hv⟩ := hv
  refine aw_eqv (pc2 := 1388) (st2 := [.int y405]) rfl rfl rfl rfl ?_
  revert hv hc9 hs9; generalize c + mc2 = c407; generalize s + ms2 = s408; intro hc9 hs9 hv
  refine aw_istore (lv' := [(5, .int y405), (0, .ref G.2.2.1), (1, .ref x1), (2, .ref x2), (3, .ref x3), (4, .int x4)]) dL_law_1388 (Nat.le_of_ble_eq_true rfl) rfl ?_
  refine aw_aload_n 3 (x := x2) dL_law_1390 rfl rfl ?_
  refine aw_aload_n 1 (x := G.2.2.1) dL_law_1391 rfl rfl ?_
  refine aw_iload 5 dL_law_1392 rfl ?_
  refine aw_iconst (v := 1) dL_law_1394 (by decide) ?_
  refine aw_iadd dL_law_1395 ?_
  obtain ⟨z409, hv⟩ := hv
  refine aw_sld z409 dL_law_1396 ?_
  refine aw_aload_n 1 (x := G.2.2.1) dL_law_1397 rfl rfl ?_
  refine aw_iload 5 dL_law_1398 rfl ?_
  refine aw_iconst (v := 2) dL_law_1400 (by decide) ?_
  refine aw_iadd dL_law_1401 ?_
  obtain ⟨z410, hv⟩ := hv
  refine aw_sld z410 dL_law_1402 ?_
  obtain ⟨⟨fs, he⟩, hv⟩ := hv
  obtain ⟨d2, mc2, ms2, Q, hM, hd9, hc9, hs9, hv, hx⟩ := hv
  refine aw_callV (rest := []) hM he rfl rfl nX6_reasonFor q2070 q2071 q2072 q137 q2073 dL_law_1403 rfl hd9 (by decide) (Nat.le_of_ble_eq_true rfl) hc9 hs9 ?_ ?_
  rotate_left
  · exact fun E h2 q => aX_out (hx E h2 q) rfl hc9 hs9
  intro v9 h412 hq
  have hv := hv v9 h412 hq
  obtain ⟨y411, rfl, hv⟩ := hv
  refine aw_eqv (pc2 := 1406) (st2 := [.int y411]) rfl rfl rfl rfl ?_
  revert hv hc9 hs9; generalize c407 + mc2 = c413; generalize s408 + ms2 = s414; intro hc9 hs9 hv
  refine aw_istore (lv' := [(6, .int y411), (5, .int y405), (0, .ref G.2.2.1), (1, .ref x1), (2, .ref x2), (3, .ref x3), (4, .int x4)]) dL_law_1406 (Nat.le_of_ble_eq_true rfl) rfl ?_
  refine aw_aload_n 4 (x := x2) dL_law_1408 rfl rfl ?_
  obtain ⟨⟨fs, he⟩, hv⟩ := hv
  obtain ⟨d2, mc2, ms2, Q, hM, hd9, hc9, hs9, hv, hx⟩ := hv
  refine aw_callV (rest := []) hM he rfl rfl nX6_thrown q1814 q1815 q1816 q137 q1817 dL_law_1409 rfl hd9 (by decide) (Nat.le_of_ble_eq_true rfl) hc9 hs9 ?_ ?_
  rotate_left
  · exact fun E h2 q => aX_out (hx E h2 q) rfl hc9 hs9
  intro v9 h416 hq
  have hv := hv v9 h416 hq
  obtain ⟨y415, rfl, hv⟩ := hv
  refine aw_eqv (pc2 := 1412) (st2 := [.int y415]) rfl rfl rfl rfl ?_
  revert hv hc9 hs9; generalize c413 + mc2 = c417; generalize s414 + ms2 = s418; intro hc9 hs9 hv
  refine aw_iload 1 dL_law_1412 rfl ?_
  refine aw_icmp_eq 1419 dL_law_1414 (by decide) (fun c419 => ?_) (fun c419 => ?_)
  · have hv := hv.1 c419
    refine aw_iload 1 dL_law_1419 rfl ?_
    refine aw_if_ne 1436 dL_law_1421 (by decide) (fun c420 => ?_) (fun c420 => ?_)
    · have hv := hv.1 c420
      refine aw_goto 2161 dL_law_1436 (by decide) ?_
      refine aw_sub [2, 3, 4, 5, 6] rfl ?_
      exact hv hc9 hs9
    · have hv := hv.2 c420
      refine aw_aload_n 5 (x := x3) dL_law_1424 rfl rfl ?_
      refine aw_iconst (v := 0) dL_law_1425 (by decide) ?_
      obtain ⟨n9, f9, he, hin, hv⟩ := hv
      refine aw_lald he hin dL_law_1426 ?_
      revert hv; generalize f9 ((0 : Int32)).toNatClampNeg = y421; intro hv
      refine aw_iload 0 dL_law_1427 rfl ?_
      refine aw_i2l dL_law_1429 ?_
      refine aw_lcmp dL_law_1430 ?_
      refine aw_if_eq 1436 dL_law_1431 (by decide) (fun c422 => ?_) (fun c422 => ?_)
      · have hv := hv.1 c422
        refine aw_goto 2161 dL_law_1436 (by decide) ?_
        refine aw_sub [2, 3, 4, 5, 6] rfl ?_
        exact hv hc9 hs9
      · have hv := hv.2 c422
        refine aw_iconst (v := 0) dL_law_1434 (by decide) ?_
        exact aw_zret rfl rfl dL_law_1435 hv hc9 hs9
  · have hv := hv.2 c419
    refine aw_iconst (v := 0) dL_law_1417 (by decide) ?_
    exact aw_zret rfl rfl dL_law_1418 hv hc9 hs9
def V_L_law_1439 (l : Launch) (G : aG) (d mc ms : Nat) (P : aR → aH → Prop) (x1 : Nat) (x2 : Nat) (x3 : Nat) (x4 : Int32) (h : aH) (c s : Nat) : Prop :=
  vIs h x1 1 (
  vC l G mX1_nextStep (wsN mX1_nextStep) d mc ms [.ref x1] h c s (xP P) (kI fun y423 h424 c425 s426 => 
  vIs h424 x2 0 (
  vC l G mX6_nextStep (wsN mX6_nextStep) d mc ms [.ref x2] h424 c425 s426 (xP P) (kI fun y427 h428 c429 s430 => 
  (y423 = y427 → 
    T_L_law_2161 l G d mc ms P x1 x2 x3 x4 h428 c429 s430
    ) ∧ (¬ y423 = y427 → 
    P (.inl (some (.int 0))) h428
    )))))
set_option maxHeartbeats 4000000 in
theorem A_L_law_1439 {l : Launch} {G : aG} {d mc ms : Nat} {P : aR → aH → Prop} {x1 : Nat} {x2 : Nat} {x3 : Nat} {x4 : Int32} {h : aH} {c s : Nat} (hl : l.stackTraces = false) (hv : V_L_law_1439 l G d mc ms P x1 x2 x3 x4 h c s) : T_L_law_1439 l G d mc ms P x1 x2 x3 x4 h c s := by
  intro hc hs
  unfold V_L_law_1439 at hv
  refine aw_aload_n 1 (x := x1) dL_law_1439 rfl rfl ?_
  obtain ⟨⟨fs, he⟩, hv⟩ := hv
  obtain ⟨d2, mc2, ms2, Q, hM, hd9, hc9, hs9, hv, hx⟩ := hv
  refine aw_callV (rest := []) hM he rfl rfl nX1_nextStep q688 q689 q690 q119 q691 dL_law_1440 rfl hd9 (by decide) (Nat.le_of_ble_eq_true rfl) hc9 hs9 ?_ ?_
  rotate_left
  · exact fun E h2 q => aX_out (hx E h2 q) rfl hc9 hs9
  intro v9 h424 hq
  have hv := hv v9 h424 hq
  obtain ⟨y423, rfl, hv⟩ := hv
  refine aw_eqv (pc2 := 1443) (st2 := [.int y423]) rfl rfl rfl rfl ?_
  revert hv hc9 hs9; generalize c + mc2 = c425; generalize s + ms2 = s426; intro hc9 hs9 hv
  refine aw_aload_n 2 (x := x2) dL_law_1443 rfl rfl ?_
  obtain ⟨⟨fs, he⟩, hv⟩ := hv
  obtain ⟨d2, mc2, ms2, Q, hM, hd9, hc9, hs9, hv, hx⟩ := hv
  refine aw_callV (rest := [.int y423]) hM he rfl rfl nX6_nextStep q2126 q2127 q2128 q137 q2129 dL_law_1444 rfl hd9 (by decide) (Nat.le_of_ble_eq_true rfl) hc9 hs9 ?_ ?_
  rotate_left
  · exact fun E h2 q => aX_out (hx E h2 q) rfl hc9 hs9
  intro v9 h428 hq
  have hv := hv v9 h428 hq
  obtain ⟨y427, rfl, hv⟩ := hv
  refine aw_eqv (pc2 := 1447) (st2 := [.int y427, .int y423]) rfl rfl rfl rfl ?_
  revert hv hc9 hs9; generalize c425 + mc2 = c429; generalize s426 + ms2 = s430; intro hc9 hs9 hv
  refine aw_icmp_eq 2161 dL_law_1447 (by decide) (fun c431 => ?_) (fun c431 => ?_)
  · have hv := hv.1 c431
    exact hv hc9 hs9
  · have hv := hv.2 c431
    refine aw_iconst (v := 0) dL_law_1450 (by decide) ?_
    exact aw_zret rfl rfl dL_law_1451 hv hc9 hs9
def V_L_law_1452 (l : Launch) (G : aG) (d mc ms : Nat) (P : aR → aH → Prop) (x1 : Nat) (x2 : Nat) (x3 : Nat) (x4 : Int32) (h : aH) (c s : Nat) : Prop :=
  vC l G mX0_step (wsX mX0_step) d mc ms [.ref x1, .ref x3] h c s (xP P) (kI fun y432 h433 c434 s435 => 
  vIs h433 x2 0 (
  vC l G mX6_step (wsN mX6_step) d mc ms [.ref x2] h433 c434 s435 (xP P) (kI fun y436 h437 c438 s439 => 
  vIs h437 x2 0 (
  vC l G mX6_thrown (wsN mX6_thrown) d mc ms [.ref x2] h437 c438 s439 (xP P) (kI fun y440 h441 c442 s443 => 
  (y440 = y432 → 
    (¬ y432 = 0 → 
      T_L_law_2161 l G d mc ms P x1 x2 x3 x4 h441 c442 s443
      ) ∧ (y432 = 0 → 
      vAL h441 x3 (0 : Int32) fun y446 =>
      ((lg_cmp y446 y436.toInt64) = 0 → 
        T_L_law_2161 l G d mc ms P x1 x2 x3 x4 h441 c442 s443
        ) ∧ (¬ (lg_cmp y446 y436.toInt64) = 0 → 
        P (.inl (some (.int 0))) h441
        )
      )
    ) ∧ (¬ y440 = y432 → 
    P (.inl (some (.int 0))) h441
    ))))))
set_option maxHeartbeats 4000000 in
theorem A_L_law_1452 {l : Launch} {G : aG} {d mc ms : Nat} {P : aR → aH → Prop} {x1 : Nat} {x2 : Nat} {x3 : Nat} {x4 : Int32} {h : aH} {c s : Nat} (hl : l.stackTraces = false) (hv : V_L_law_1452 l G d mc ms P x1 x2 x3 x4 h c s) : T_L_law_1452 l G d mc ms P x1 x2 x3 x4 h c s := by
  intro hc hs
  unfold V_L_law_1452 at hv
  refine aw_aload_n 1 (x := x1) dL_law_1452 rfl rfl ?_
  refine aw_aload_n 3 (x := x3) dL_law_1453 rfl rfl ?_
  obtain ⟨d2, mc2, ms2, Q, hM, hd9, hc9, hs9, hv, hx⟩ := hv
  refine aw_callSW (rest := []) hM nX0_step q1607 q1608 q118 q1609 dL_law_1454 rfl hd9 (by decide) (Nat.le_of_ble_eq_true rfl) hc9 hs9 ?_ ?_
  rotate_left
  · exact fun E h2 q => aX_out (hx E h2 q) rfl hc9 hs9
  intro v9 h433 hq
  have hv := hv v9 h433 hq
  obtain ⟨y432, rfl, hv⟩ := hv
  refine aw_eqv (pc2 := 1457) (st2 := [.int y432]) rfl rfl rfl rfl ?_
  revert hv hc9 hs9; generalize c + mc2 = c434; generalize s + ms2 = s435; intro hc9 hs9 hv
  refine aw_istore (lv' := [(5, .int y432), (0, .ref G.2.2.1), (1, .ref x1), (2, .ref x2), (3, .ref x3), (4, .int x4)]) dL_law_1457 (Nat.le_of_ble_eq_true rfl) rfl ?_
  refine aw_aload_n 3 (x := x2) dL_law_1459 rfl rfl ?_
  obtain ⟨⟨fs, he⟩, hv⟩ := hv
  obtain ⟨d2, mc2, ms2, Q, hM, hd9, hc9, hs9, hv, hx⟩ := hv
  refine aw_callV (rest := []) hM he rfl rfl nX6_step q2134 q2135 q2136 q137 q2137 dL_law_1460 rfl hd9 (by decide) (Nat.le_of_ble_eq_true rfl) hc9 hs9 ?_ ?_
  rotate_left
  · exact fun E h2 q => aX_out (hx E h2 q) rfl hc9 hs9
  intro v9 h437 hq
  have hv := hv v9 h437 hq
  obtain ⟨y436, rfl, hv⟩ := hv
  refine aw_eqv (pc2 := 1463) (st2 := [.int y436]) rfl rfl rfl rfl ?_
  revert hv hc9 hs9; generalize c434 + mc2 = c438; generalize s435 + ms2 = s439; intro hc9 hs9 hv
  refine aw_istore (lv' := [(6, .int y436), (5, .int y432), (0, .ref G.2.2.1), (1, .ref x1), (2, .ref x2), (3, .ref x3), (4, .int x4)]) dL_law_1463 (Nat.le_of_ble_eq_true rfl) rfl ?_
  refine aw_aload_n 4 (x := x2) dL_law_1465 rfl rfl ?_
  obtain ⟨⟨fs, he⟩, hv⟩ := hv
  obtain ⟨d2, mc2, ms2, Q, hM, hd9, hc9, hs9, hv, hx⟩ := hv
  refine aw_callV (rest := []) hM he rfl rfl nX6_thrown q1814 q1815 q1816 q137 q1817 dL_law_1466 rfl hd9 (by decide) (Nat.le_of_ble_eq_true rfl) hc9 hs9 ?_ ?_
  rotate_left
  · exact fun E h2 q => aX_out (hx E h2 q) rfl hc9 hs9
  intro v9 h441 hq
  have hv := hv v9 h441 hq
  obtain ⟨y440, rfl, hv⟩ := hv
  refine aw_eqv (pc2 := 1469) (st2 := [.int y440]) rfl rfl rfl rfl ?_
  revert hv hc9 hs9; generalize c438 + mc2 = c442; generalize s439 + ms2 = s443; intro hc9 hs9 hv
  refine aw_iload 1 dL_law_1469 rfl ?_
  refine aw_icmp_eq 1476 dL_law_1471 (by decide) (fun c444 => ?_) (fun c444 => ?_)
  · have hv := hv.1 c444
    refine aw_iload 1 dL_law_1476 rfl ?_
    refine aw_if_ne 1493 dL_law_1478 (by decide) (fun c445 => ?_) (fun c445 => ?_)
    · have hv := hv.1 c445
      refine aw_goto 2161 dL_law_1493 (by decide) ?_
      refine aw_sub [2, 3, 4, 5, 6] rfl ?_
      exact hv hc9 hs9
    · have hv := hv.2 c445
      refine aw_aload_n 5 (x := x3) dL_law_1481 rfl rfl ?_
      refine aw_iconst (v := 0) dL_law_1482 (by decide) ?_
      obtain ⟨n9, f9, he, hin, hv⟩ := hv
      refine aw_lald he hin dL_law_1483 ?_
      revert hv; generalize f9 ((0 : Int32)).toNatClampNeg = y446; intro hv
      refine aw_iload 0 dL_law_1484 rfl ?_
      refine aw_i2l dL_law_1486 ?_
      refine aw_lcmp dL_law_1487 ?_
      refine aw_if_eq 1493 dL_law_1488 (by decide) (fun c447 => ?_) (fun c447 => ?_)
      · have hv := hv.1 c447
        refine aw_goto 2161 dL_law_1493 (by decide) ?_
        refine aw_sub [2, 3, 4, 5, 6] rfl ?_
        exact hv hc9 hs9
      · have hv := hv.2 c447
        refine aw_iconst (v := 0) dL_law_1491 (by decide) ?_
        exact aw_zret rfl rfl dL_law_1492 hv hc9 hs9
  · have hv := hv.2 c444
    refine aw_iconst (v := 0) dL_law_1474 (by decide) ?_
    exact aw_zret rfl rfl dL_law_1475 hv hc9 hs9
def V_L_law_1496 (l : Launch) (G : aG) (d mc ms : Nat) (P : aR → aH → Prop) (x1 : Nat) (x2 : Nat) (x3 : Nat) (x4 : Int32) (h : aH) (c s : Nat) : Prop :=
  vp_in (x4 + (1 : Int32)) G.2.2.2.1 ∧
  vC l G mX0_stepAll (wsX mX0_stepAll) d mc ms [.ref x1, .int (G.2.2.2.2 (x4 + (1 : Int32)).toNatClampNeg), .ref x3] h c s (xP P) (kI fun y449 h450 c451 s452 => 
  vp_in (x4 + (1 : Int32)) G.2.2.2.1 ∧
  vIs h450 x2 0 (
  vC l G mX6_stepAll (wsN mX6_stepAll) d mc ms [.ref x2, .int (G.2.2.2.2 (x4 + (1 : Int32)).toNatClampNeg)] h450 c451 s452 (xP P) (kI fun y454 h455 c456 s457 => 
  vIs h455 x2 0 (
  vC l G mX6_thrown (wsN mX6_thrown) d mc ms [.ref x2] h455 c456 s457 (xP P) (kI fun y458 h459 c460 s461 => 
  (y458 = y449 → 
    (¬ y449 = 0 → 
      T_L_law_2161 l G d mc ms P x1 x2 x3 x4 h459 c460 s461
      ) ∧ (y449 = 0 → 
      vAL h459 x3 (0 : Int32) fun y464 =>
      ((lg_cmp y464 y454.toInt64) = 0 → 
        T_L_law_2161 l G d mc ms P x1 x2 x3 x4 h459 c460 s461
        ) ∧ (¬ (lg_cmp y464 y454.toInt64) = 0 → 
        P (.inl (some (.int 0))) h459
        )
      )
    ) ∧ (¬ y458 = y449 → 
    P (.inl (some (.int 0))) h459
    ))))))
set_option maxHeartbeats 4000000 in
theorem A_L_law_1496 {l : Launch} {G : aG} {d mc ms : Nat} {P : aR → aH → Prop} {x1 : Nat} {x2 : Nat} {x3 : Nat} {x4 : Int32} {h : aH} {c s : Nat} (hl : l.stackTraces = false) (hv : V_L_law_1496 l G d mc ms P x1 x2 x3 x4 h c s) : T_L_law_1496 l G d mc ms P x1 x2 x3 x4 h c s := by
  intro hc hs
  unfold V_L_law_1496 at hv
  refine aw_aload_n 1 (x := x1) dL_law_1496 rfl rfl ?_
  refine aw_aload_n 0 (x := G.2.2.1) dL_law_1497 rfl rfl ?_
  refine aw_iload 4 dL_law_1498 rfl ?_
  refine aw_iconst (v := 1) dL_law_1500 (by decide) ?_
  refine aw_iadd dL_law_1501 ?_
  obtain ⟨z448, hv⟩ := hv
  refine aw_sld z448 dL_law_1502 ?_
  refine aw_aload_n 3 (x := x3) dL_law_1503 rfl rfl ?_
  obtain ⟨d2, mc2, ms2, Q, hM, hd9, hc9, hs9, hv, hx⟩ := hv
  refine aw_callSW (rest := []) hM nX0_stepAll q1615 q1616 q118 q1617 dL_law_1504 rfl hd9 (by decide) (Nat.le_of_ble_eq_true rfl) hc9 hs9 ?_ ?_
  rotate_left
  · exact fun E h2 q => aX_out (hx E h2 q) rfl hc9 hs9
  intro v9 h450 hq
  have hv := hv v9 h450 hq
  obtain ⟨y449, rfl, hv⟩ := hv
  refine aw_eqv (pc2 := 1507) (st2 := [.int y449]) rfl rfl rfl rfl ?_
  revert hv hc9 hs9; generalize c + mc2 = c451; generalize s + ms2 = s452; intro hc9 hs9 hv
  refine aw_istore (lv' := [(5, .int y449), (0, .ref G.2.2.1), (1, .ref x1), (2, .ref x2), (3, .ref x3), (4, .int x4)]) dL_law_1507 (Nat.le_of_ble_eq_true rfl) rfl ?_
  refine aw_aload_n 3 (x := x2) dL_law_1509 rfl rfl ?_
  refine aw_aload_n 1 (x := G.2.2.1) dL_law_1510 rfl rfl ?_
  refine aw_iload 5 dL_law_1511 rfl ?_
  refine aw_iconst (v := 1) dL_law_1513 (by decide) ?_
  refine aw_iadd dL_law_1514 ?_
  obtain ⟨z453, hv⟩ := hv
  refine aw_sld z453 dL_law_1515 ?_
  obtain ⟨⟨fs, he⟩, hv⟩ := hv
  obtain ⟨d2, mc2, ms2, Q, hM, hd9, hc9, hs9, hv, hx⟩ := hv
  refine aw_callV (rest := []) hM he rfl rfl nX6_stepAll q2138 q2139 q2140 q137 q2141 dL_law_1516 rfl hd9 (by decide) (Nat.le_of_ble_eq_true rfl) hc9 hs9 ?_ ?_
  rotate_left
  · exact fun E h2 q => aX_out (hx E h2 q) rfl hc9 hs9
  intro v9 h455 hq
  have hv := hv v9 h455 hq
  obtain ⟨y454, rfl, hv⟩ := hv
  refine aw_eqv (pc2 := 1519) (st2 := [.int y454]) rfl rfl rfl rfl ?_
  revert hv hc9 hs9; generalize c451 + mc2 = c456; generalize s452 + ms2 = s457; intro hc9 hs9 hv
  refine aw_istore (lv' := [(6, .int y454), (5, .int y449), (0, .ref G.2.2.1), (1, .ref x1), (2, .ref x2), (3, .ref x3), (4, .int x4)]) dL_law_1519 (Nat.le_of_ble_eq_true rfl) rfl ?_
  refine aw_aload_n 4 (x := x2) dL_law_1521 rfl rfl ?_
  obtain ⟨⟨fs, he⟩, hv⟩ := hv
  obtain ⟨d2, mc2, ms2, Q, hM, hd9, hc9, hs9, hv, hx⟩ := hv
  refine aw_callV (rest := []) hM he rfl rfl nX6_thrown q1814 q1815 q1816 q137 q1817 dL_law_1522 rfl hd9 (by decide) (Nat.le_of_ble_eq_true rfl) hc9 hs9 ?_ ?_
  rotate_left
  · exact fun E h2 q => aX_out (hx E h2 q) rfl hc9 hs9
  intro v9 h459 hq
  have hv := hv v9 h459 hq
  obtain ⟨y458, rfl, hv⟩ := hv
  refine aw_eqv (pc2 := 1525) (st2 := [.int y458]) rfl rfl rfl rfl ?_
  revert hv hc9 hs9; generalize c456 + mc2 = c460; generalize s457 + ms2 = s461; intro hc9 hs9 hv
  refine aw_iload 1 dL_law_1525 rfl ?_
  refine aw_icmp_eq 1532 dL_law_1527 (by decide) (fun c462 => ?_) (fun c462 => ?_)
  · have hv := hv.1 c462
    refine aw_iload 1 dL_law_1532 rfl ?_
    refine aw_if_ne 1549 dL_law_1534 (by decide) (fun c463 => ?_) (fun c463 => ?_)
    · have hv := hv.1 c463
      refine aw_goto 2161 dL_law_1549 (by decide) ?_
      refine aw_sub [2, 3, 4, 5, 6] rfl ?_
      exact hv hc9 hs9
    · have hv := hv.2 c463
      refine aw_aload_n 5 (x := x3) dL_law_1537 rfl rfl ?_
      refine aw_iconst (v := 0) dL_law_1538 (by decide) ?_
      obtain ⟨n9, f9, he, hin, hv⟩ := hv
      refine aw_lald he hin dL_law_1539 ?_
      revert hv; generalize f9 ((0 : Int32)).toNatClampNeg = y464; intro hv
      refine aw_iload 0 dL_law_1540 rfl ?_
      refine aw_i2l dL_law_1542 ?_
      refine aw_lcmp dL_law_1543 ?_
      refine aw_if_eq 1549 dL_law_1544 (by decide) (fun c465 => ?_) (fun c465 => ?_)
      · have hv := hv.1 c465
        refine aw_goto 2161 dL_law_1549 (by decide) ?_
        refine aw_sub [2, 3, 4, 5, 6] rfl ?_
        exact hv hc9 hs9
      · have hv := hv.2 c465
        refine aw_iconst (v := 0) dL_law_1547 (by decide) ?_
        exact aw_zret rfl rfl dL_law_1548 hv hc9 hs9
  · have hv := hv.2 c462
    refine aw_iconst (v := 0) dL_law_1530 (by decide) ?_
    exact aw_zret rfl rfl dL_law_1531 hv hc9 hs9
def V_L_law_1552 (l : Launch) (G : aG) (d mc ms : Nat) (P : aR → aH → Prop) (x1 : Nat) (x2 : Nat) (x3 : Nat) (x4 : Int32) (h : aH) (c s : Nat) : Prop :=
  vp_in (x4 + (1 : Int32)) G.2.2.2.1 ∧
  vC l G mX0_stepsUpTo (wsX mX0_stepsUpTo) d mc ms [.ref x1, .int (G.2.2.2.2 (x4 + (1 : Int32)).toNatClampNeg), .ref x3] h c s (xP P) (kI fun y467 h468 c469 s470 => 
  vp_in (x4 + (1 : Int32)) G.2.2.2.1 ∧
  vIs h468 x2 0 (
  vC l G mX6_stepsUpTo (wsN mX6_stepsUpTo) d mc ms [.ref x2, .int (G.2.2.2.2 (x4 + (1 : Int32)).toNatClampNeg)] h468 c469 s470 (xP P) (kI fun y472 h473 c474 s475 => 
  vIs h473 x2 0 (
  vC l G mX6_thrown (wsN mX6_thrown) d mc ms [.ref x2] h473 c474 s475 (xP P) (kI fun y476 h477 c478 s479 => 
  (y476 = y467 → 
    (¬ y467 = 0 → 
      T_L_law_2161 l G d mc ms P x1 x2 x3 x4 h477 c478 s479
      ) ∧ (y467 = 0 → 
      vAL h477 x3 (0 : Int32) fun y482 =>
      ((lg_cmp y482 y472.toInt64) = 0 → 
        T_L_law_2161 l G d mc ms P x1 x2 x3 x4 h477 c478 s479
        ) ∧ (¬ (lg_cmp y482 y472.toInt64) = 0 → 
        P (.inl (some (.int 0))) h477
        )
      )
    ) ∧ (¬ y476 = y467 → 
    P (.inl (some (.int 0))) h477
    ))))))
set_option maxHeartbeats 4000000 in
theorem A_L_law_1552 {l : Launch} {G : aG} {d mc ms : Nat} {P : aR → aH → Prop} {x1 : Nat} {x2 : Nat} {x3 : Nat} {x4 : Int32} {h : aH} {c s : Nat} (hl : l.stackTraces = false) (hv : V_L_law_1552 l G d mc ms P x1 x2 x3 x4 h c s) : T_L_law_1552 l G d mc ms P x1 x2 x3 x4 h c s := by
  intro hc hs
  unfold V_L_law_1552 at hv
  refine aw_aload_n 1 (x := x1) dL_law_1552 rfl rfl ?_
  refine aw_aload_n 0 (x := G.2.2.1) dL_law_1553 rfl rfl ?_
  refine aw_iload 4 dL_law_1554 rfl ?_
  refine aw_iconst (v := 1) dL_law_1556 (by decide) ?_
  refine aw_iadd dL_law_1557 ?_
  obtain ⟨z466, hv⟩ := hv
  refine aw_sld z466 dL_law_1558 ?_
  refine aw_aload_n 3 (x := x3) dL_law_1559 rfl rfl ?_
  obtain ⟨d2, mc2, ms2, Q, hM, hd9, hc9, hs9, hv, hx⟩ := hv
  refine aw_callSW (rest := []) hM nX0_stepsUpTo q1625 q1626 q118 q1627 dL_law_1560 rfl hd9 (by decide) (Nat.le_of_ble_eq_true rfl) hc9 hs9 ?_ ?_
  rotate_left
  · exact fun E h2 q => aX_out (hx E h2 q) rfl hc9 hs9
  intro v9 h468 hq
  have hv := hv v9 h468 hq
  obtain ⟨y467, rfl, hv⟩ := hv
  refine aw_eqv (pc2 := 1563) (st2 := [.int y467]) rfl rfl rfl rfl ?_
  revert hv hc9 hs9; generalize c + mc2 = c469; generalize s + ms2 = s470; intro hc9 hs9 hv
  refine aw_istore (lv' := [(5, .int y467), (0, .ref G.2.2.1), (1, .ref x1), (2, .ref x2), (3, .ref x3), (4, .int x4)]) dL_law_1563 (Nat.le_of_ble_eq_true rfl) rfl ?_
  refine aw_aload_n 3 (x := x2) dL_law_1565 rfl rfl ?_
  refine aw_aload_n 1 (x := G.2.2.1) dL_law_1566 rfl rfl ?_
  refine aw_iload 5 dL_law_1567 rfl ?_
  refine aw_iconst (v := 1) dL_law_1569 (by decide) ?_
  refine aw_iadd dL_law_1570 ?_
  obtain ⟨z471, hv⟩ := hv
  refine aw_sld z471 dL_law_1571 ?_
  obtain ⟨⟨fs, he⟩, hv⟩ := hv
  obtain ⟨d2, mc2, ms2, Q, hM, hd9, hc9, hs9, hv, hx⟩ := hv
  refine aw_callV (rest := []) hM he rfl rfl nX6_stepsUpTo q2150 q2151 q2152 q137 q2153 dL_law_1572 rfl hd9 (by decide) (Nat.le_of_ble_eq_true rfl) hc9 hs9 ?_ ?_
  rotate_left
  · exact fun E h2 q => aX_out (hx E h2 q) rfl hc9 hs9
  intro v9 h473 hq
  have hv := hv v9 h473 hq
  obtain ⟨y472, rfl, hv⟩ := hv
  refine aw_eqv (pc2 := 1575) (st2 := [.int y472]) rfl rfl rfl rfl ?_
  revert hv hc9 hs9; generalize c469 + mc2 = c474; generalize s470 + ms2 = s475; intro hc9 hs9 hv
  refine aw_istore (lv' := [(6, .int y472), (5, .int y467), (0, .ref G.2.2.1), (1, .ref x1), (2, .ref x2), (3, .ref x3), (4, .int x4)]) dL_law_1575 (Nat.le_of_ble_eq_true rfl) rfl ?_
  refine aw_aload_n 4 (x := x2) dL_law_1577 rfl rfl ?_
  obtain ⟨⟨fs, he⟩, hv⟩ := hv
  obtain ⟨d2, mc2, ms2, Q, hM, hd9, hc9, hs9, hv, hx⟩ := hv
  refine aw_callV (rest := []) hM he rfl rfl nX6_thrown q1814 q1815 q1816 q137 q1817 dL_law_1578 rfl hd9 (by decide) (Nat.le_of_ble_eq_true rfl) hc9 hs9 ?_ ?_
  rotate_left
  · exact fun E h2 q => aX_out (hx E h2 q) rfl hc9 hs9
  intro v9 h477 hq
  have hv := hv v9 h477 hq
  obtain ⟨y476, rfl, hv⟩ := hv
  refine aw_eqv (pc2 := 1581) (st2 := [.int y476]) rfl rfl rfl rfl ?_
  revert hv hc9 hs9; generalize c474 + mc2 = c478; generalize s475 + ms2 = s479; intro hc9 hs9 hv
  refine aw_iload 1 dL_law_1581 rfl ?_
  refine aw_icmp_eq 1588 dL_law_1583 (by decide) (fun c480 => ?_) (fun c480 => ?_)
  · have hv := hv.1 c480
    refine aw_iload 1 dL_law_1588 rfl ?_
    refine aw_if_ne 1605 dL_law_1590 (by decide) (fun c481 => ?_) (fun c481 => ?_)
    · have hv := hv.1 c481
      refine aw_goto 2161 dL_law_1605 (by decide) ?_
      refine aw_sub [2, 3, 4, 5, 6] rfl ?_
      exact hv hc9 hs9
    · have hv := hv.2 c481
      refine aw_aload_n 5 (x := x3) dL_law_1593 rfl rfl ?_
      refine aw_iconst (v := 0) dL_law_1594 (by decide) ?_
      obtain ⟨n9, f9, he, hin, hv⟩ := hv
      refine aw_lald he hin dL_law_1595 ?_
      revert hv; generalize f9 ((0 : Int32)).toNatClampNeg = y482; intro hv
      refine aw_iload 0 dL_law_1596 rfl ?_
      refine aw_i2l dL_law_1598 ?_
      refine aw_lcmp dL_law_1599 ?_
      refine aw_if_eq 1605 dL_law_1600 (by decide) (fun c483 => ?_) (fun c483 => ?_)
      · have hv := hv.1 c483
        refine aw_goto 2161 dL_law_1605 (by decide) ?_
        refine aw_sub [2, 3, 4, 5, 6] rfl ?_
        exact hv hc9 hs9
      · have hv := hv.2 c483
        refine aw_iconst (v := 0) dL_law_1603 (by decide) ?_
        exact aw_zret rfl rfl dL_law_1604 hv hc9 hs9
  · have hv := hv.2 c480
    refine aw_iconst (v := 0) dL_law_1586 (by decide) ?_
    exact aw_zret rfl rfl dL_law_1587 hv hc9 hs9
def V_L_law_1608 (l : Launch) (G : aG) (d mc ms : Nat) (P : aR → aH → Prop) (x1 : Nat) (x2 : Nat) (x3 : Nat) (x4 : Int32) (h : aH) (c s : Nat) : Prop :=
  vIs h x1 1 (
  vC l G mX1_hardness (wsN mX1_hardness) d mc ms [.ref x1] h c s (xP P) (kI fun y484 h485 c486 s487 => 
  vIs h485 x2 0 (
  vC l G mX6_hardness (wsN mX6_hardness) d mc ms [.ref x2] h485 c486 s487 (xP P) (kI fun y488 h489 c490 s491 => 
  (y484 = y488 → 
    T_L_law_2161 l G d mc ms P x1 x2 x3 x4 h489 c490 s491
    ) ∧ (¬ y484 = y488 → 
    P (.inl (some (.int 0))) h489
    )))))
set_option maxHeartbeats 4000000 in
theorem A_L_law_1608 {l : Launch} {G : aG} {d mc ms : Nat} {P : aR → aH → Prop} {x1 : Nat} {x2 : Nat} {x3 : Nat} {x4 : Int32} {h : aH} {c s : Nat} (hl : l.stackTraces = false) (hv : V_L_law_1608 l G d mc ms P x1 x2 x3 x4 h c s) : T_L_law_1608 l G d mc ms P x1 x2 x3 x4 h c s := by
  intro hc hs
  unfold V_L_law_1608 at hv
  refine aw_aload_n 1 (x := x1) dL_law_1608 rfl rfl ?_
  obtain ⟨⟨fs, he⟩, hv⟩ := hv
  obtain ⟨d2, mc2, ms2, Q, hM, hd9, hc9, hs9, hv, hx⟩ := hv
  refine aw_callV (rest := []) hM he rfl rfl nX1_hardness q759 q760 q761 q119 q762 dL_law_1609 rfl hd9 (by decide) (Nat.le_of_ble_eq_true rfl) hc9 hs9 ?_ ?_
  rotate_left
  · exact fun E h2 q => aX_out (hx E h2 q) rfl hc9 hs9
  intro v9 h485 hq
  have hv := hv v9 h485 hq
  obtain ⟨y484, rfl, hv⟩ := hv
  refine aw_eqv (pc2 := 1612) (st2 := [.int y484]) rfl rfl rfl rfl ?_
  revert hv hc9 hs9; generalize c + mc2 = c486; generalize s + ms2 = s487; intro hc9 hs9 hv
  refine aw_aload_n 2 (x := x2) dL_law_1612 rfl rfl ?_
  obtain ⟨⟨fs, he⟩, hv⟩ := hv
  obtain ⟨d2, mc2, ms2, Q, hM, hd9, hc9, hs9, hv, hx⟩ := hv
  refine aw_callV (rest := [.int y484]) hM he rfl rfl nX6_hardness q2154 q2155 q2156 q137 q2157 dL_law_1613 rfl hd9 (by decide) (Nat.le_of_ble_eq_true rfl) hc9 hs9 ?_ ?_
  rotate_left
  · exact fun E h2 q => aX_out (hx E h2 q) rfl hc9 hs9
  intro v9 h489 hq
  have hv := hv v9 h489 hq
  obtain ⟨y488, rfl, hv⟩ := hv
  refine aw_eqv (pc2 := 1616) (st2 := [.int y488, .int y484]) rfl rfl rfl rfl ?_
  revert hv hc9 hs9; generalize c486 + mc2 = c490; generalize s487 + ms2 = s491; intro hc9 hs9 hv
  refine aw_icmp_eq 2161 dL_law_1616 (by decide) (fun c492 => ?_) (fun c492 => ?_)
  · have hv := hv.1 c492
    exact hv hc9 hs9
  · have hv := hv.2 c492
    refine aw_iconst (v := 0) dL_law_1619 (by decide) ?_
    exact aw_zret rfl rfl dL_law_1620 hv hc9 hs9
def V_L_law_1621 (l : Launch) (G : aG) (d mc ms : Nat) (P : aR → aH → Prop) (x1 : Nat) (x2 : Nat) (x3 : Nat) (x4 : Int32) (h : aH) (c s : Nat) : Prop :=
  vIs h x1 1 (
  vC l G mX1_solutionCount (wsN mX1_solutionCount) d mc ms [.ref x1] h c s (xP P) (kI fun y493 h494 c495 s496 => 
  vIs h494 x2 0 (
  vC l G mX6_solutionCount (wsN mX6_solutionCount) d mc ms [.ref x2] h494 c495 s496 (xP P) (kI fun y497 h498 c499 s500 => 
  (y493 = y497 → 
    T_L_law_2161 l G d mc ms P x1 x2 x3 x4 h498 c499 s500
    ) ∧ (¬ y493 = y497 → 
    P (.inl (some (.int 0))) h498
    )))))
set_option maxHeartbeats 4000000 in
theorem A_L_law_1621 {l : Launch} {G : aG} {d mc ms : Nat} {P : aR → aH → Prop} {x1 : Nat} {x2 : Nat} {x3 : Nat} {x4 : Int32} {h : aH} {c s : Nat} (hl : l.stackTraces = false) (hv : V_L_law_1621 l G d mc ms P x1 x2 x3 x4 h c s) : T_L_law_1621 l G d mc ms P x1 x2 x3 x4 h c s := by
  intro hc hs
  unfold V_L_law_1621 at hv
  refine aw_aload_n 1 (x := x1) dL_law_1621 rfl rfl ?_
  obtain ⟨⟨fs, he⟩, hv⟩ := hv
  obtain ⟨d2, mc2, ms2, Q, hM, hd9, hc9, hs9, hv, hx⟩ := hv
  refine aw_callV (rest := []) hM he rfl rfl nX1_solutionCount q772 q773 q774 q119 q775 dL_law_1622 rfl hd9 (by decide) (Nat.le_of_ble_eq_true rfl) hc9 hs9 ?_ ?_
  rotate_left
  · exact fun E h2 q => aX_out (hx E h2 q) rfl hc9 hs9
  intro v9 h494 hq
  have hv := hv v9 h494 hq
  obtain ⟨y493, rfl, hv⟩ := hv
  refine aw_eqv (pc2 := 1625) (st2 := [.int y493]) rfl rfl rfl rfl ?_
  revert hv hc9 hs9; generalize c + mc2 = c495; generalize s + ms2 = s496; intro hc9 hs9 hv
  refine aw_aload_n 2 (x := x2) dL_law_1625 rfl rfl ?_
  obtain ⟨⟨fs, he⟩, hv⟩ := hv
  obtain ⟨d2, mc2, ms2, Q, hM, hd9, hc9, hs9, hv, hx⟩ := hv
  refine aw_callV (rest := [.int y493]) hM he rfl rfl nX6_solutionCount q2158 q2159 q2160 q137 q2161 dL_law_1626 rfl hd9 (by decide) (Nat.le_of_ble_eq_true rfl) hc9 hs9 ?_ ?_
  rotate_left
  · exact fun E h2 q => aX_out (hx E h2 q) rfl hc9 hs9
  intro v9 h498 hq
  have hv := hv v9 h498 hq
  obtain ⟨y497, rfl, hv⟩ := hv
  refine aw_eqv (pc2 := 1629) (st2 := [.int y497, .int y493]) rfl rfl rfl rfl ?_
  revert hv hc9 hs9; generalize c495 + mc2 = c499; generalize s496 + ms2 = s500; intro hc9 hs9 hv
  refine aw_icmp_eq 2161 dL_law_1629 (by decide) (fun c501 => ?_) (fun c501 => ?_)
  · have hv := hv.1 c501
    exact hv hc9 hs9
  · have hv := hv.2 c501
    refine aw_iconst (v := 0) dL_law_1632 (by decide) ?_
    exact aw_zret rfl rfl dL_law_1633 hv hc9 hs9
def V_L_law_1634 (l : Launch) (G : aG) (d mc ms : Nat) (P : aR → aH → Prop) (x1 : Nat) (x2 : Nat) (x3 : Nat) (x4 : Int32) (h : aH) (c s : Nat) : Prop :=
  vIs h x1 1 (
  vC l G mX1_solutionCountByRows (wsN mX1_solutionCountByRows) d mc ms [.ref x1] h c s (xP P) (kI fun y502 h503 c504 s505 => 
  vIs h503 x2 0 (
  vC l G mX6_solutionCountByRows (wsN mX6_solutionCountByRows) d mc ms [.ref x2] h503 c504 s505 (xP P) (kI fun y506 h507 c508 s509 => 
  (y502 = y506 → 
    T_L_law_2161 l G d mc ms P x1 x2 x3 x4 h507 c508 s509
    ) ∧ (¬ y502 = y506 → 
    P (.inl (some (.int 0))) h507
    )))))
set_option maxHeartbeats 4000000 in
theorem A_L_law_1634 {l : Launch} {G : aG} {d mc ms : Nat} {P : aR → aH → Prop} {x1 : Nat} {x2 : Nat} {x3 : Nat} {x4 : Int32} {h : aH} {c s : Nat} (hl : l.stackTraces = false) (hv : V_L_law_1634 l G d mc ms P x1 x2 x3 x4 h c s) : T_L_law_1634 l G d mc ms P x1 x2 x3 x4 h c s := by
  intro hc hs
  unfold V_L_law_1634 at hv
  refine aw_aload_n 1 (x := x1) dL_law_1634 rfl rfl ?_
  obtain ⟨⟨fs, he⟩, hv⟩ := hv
  obtain ⟨d2, mc2, ms2, Q, hM, hd9, hc9, hs9, hv, hx⟩ := hv
  refine aw_callV (rest := []) hM he rfl rfl nX1_solutionCountByRows q829 q830 q831 q119 q832 dL_law_1635 rfl hd9 (by decide) (Nat.le_of_ble_eq_true rfl) hc9 hs9 ?_ ?_
  rotate_left
  · exact fun E h2 q => aX_out (hx E h2 q) rfl hc9 hs9
  intro v9 h503 hq
  have hv := hv v9 h503 hq
  obtain ⟨y502, rfl, hv⟩ := hv
  refine aw_eqv (pc2 := 1638) (st2 := [.int y502]) rfl rfl rfl rfl ?_
  revert hv hc9 hs9; generalize c + mc2 = c504; generalize s + ms2 = s505; intro hc9 hs9 hv
  refine aw_aload_n 2 (x := x2) dL_law_1638 rfl rfl ?_
  obtain ⟨⟨fs, he⟩, hv⟩ := hv
  obtain ⟨d2, mc2, ms2, Q, hM, hd9, hc9, hs9, hv, hx⟩ := hv
  refine aw_callV (rest := [.int y502]) hM he rfl rfl nX6_solutionCountByRows q2179 q2180 q2181 q137 q2182 dL_law_1639 rfl hd9 (by decide) (Nat.le_of_ble_eq_true rfl) hc9 hs9 ?_ ?_
  rotate_left
  · exact fun E h2 q => aX_out (hx E h2 q) rfl hc9 hs9
  intro v9 h507 hq
  have hv := hv v9 h507 hq
  obtain ⟨y506, rfl, hv⟩ := hv
  refine aw_eqv (pc2 := 1642) (st2 := [.int y506, .int y502]) rfl rfl rfl rfl ?_
  revert hv hc9 hs9; generalize c504 + mc2 = c508; generalize s505 + ms2 = s509; intro hc9 hs9 hv
  refine aw_icmp_eq 2161 dL_law_1642 (by decide) (fun c510 => ?_) (fun c510 => ?_)
  · have hv := hv.1 c510
    exact hv hc9 hs9
  · have hv := hv.2 c510
    refine aw_iconst (v := 0) dL_law_1645 (by decide) ?_
    exact aw_zret rfl rfl dL_law_1646 hv hc9 hs9
def V_L_law_1647 (l : Launch) (G : aG) (d mc ms : Nat) (P : aR → aH → Prop) (x1 : Nat) (x2 : Nat) (x3 : Nat) (x4 : Int32) (h : aH) (c s : Nat) : Prop :=
  vp_in (x4 + (1 : Int32)) G.2.2.2.1 ∧
  vC l G mX0_firstThing (wsX mX0_firstThing) d mc ms [.ref x1, .int (G.2.2.2.2 (x4 + (1 : Int32)).toNatClampNeg), .ref x3] h c s (xP P) (kI fun y512 h513 c514 s515 => 
  vp_in (x4 + (1 : Int32)) G.2.2.2.1 ∧
  vIs h513 x2 0 (
  vC l G mX6_firstThing (wsN mX6_firstThing) d mc ms [.ref x2, .int (G.2.2.2.2 (x4 + (1 : Int32)).toNatClampNeg)] h513 c514 s515 (xP P) (kI fun y517 h518 c519 s520 => 
  vIs h518 x2 0 (
  vC l G mX6_thrown (wsN mX6_thrown) d mc ms [.ref x2] h518 c519 s520 (xP P) (kI fun y521 h522 c523 s524 => 
  (y521 = y512 → 
    (¬ y512 = 0 → 
      T_L_law_2161 l G d mc ms P x1 x2 x3 x4 h522 c523 s524
      ) ∧ (y512 = 0 → 
      vAL h522 x3 (0 : Int32) fun y527 =>
      ((lg_cmp y527 y517.toInt64) = 0 → 
        T_L_law_2161 l G d mc ms P x1 x2 x3 x4 h522 c523 s524
        ) ∧ (¬ (lg_cmp y527 y517.toInt64) = 0 → 
        P (.inl (some (.int 0))) h522
        )
      )
    ) ∧ (¬ y521 = y512 → 
    P (.inl (some (.int 0))) h522
    ))))))
set_option maxHeartbeats 4000000 in
theorem A_L_law_1647 {l : Launch} {G : aG} {d mc ms : Nat} {P : aR → aH → Prop} {x1 : Nat} {x2 : Nat} {x3 : Nat} {x4 : Int32} {h : aH} {c s : Nat} (hl : l.stackTraces = false) (hv : V_L_law_1647 l G d mc ms P x1 x2 x3 x4 h c s) : T_L_law_1647 l G d mc ms P x1 x2 x3 x4 h c s := by
  intro hc hs
  unfold V_L_law_1647 at hv
  refine aw_aload_n 1 (x := x1) dL_law_1647 rfl rfl ?_
  refine aw_aload_n 0 (x := G.2.2.1) dL_law_1648 rfl rfl ?_
  refine aw_iload 4 dL_law_1649 rfl ?_
  refine aw_iconst (v := 1) dL_law_1651 (by decide) ?_
  refine aw_iadd dL_law_1652 ?_
  obtain ⟨z511, hv⟩ := hv
  refine aw_sld z511 dL_law_1653 ?_
  refine aw_aload_n 3 (x := x3) dL_law_1654 rfl rfl ?_
  obtain ⟨d2, mc2, ms2, Q, hM, hd9, hc9, hs9, hv, hx⟩ := hv
  refine aw_callSW (rest := []) hM nX0_firstThing q1632 q1633 q118 q1634 dL_law_1655 rfl hd9 (by decide) (Nat.le_of_ble_eq_true rfl) hc9 hs9 ?_ ?_
  rotate_left
  · exact fun E h2 q => aX_out (hx E h2 q) rfl hc9 hs9
  intro v9 h513 hq
  have hv := hv v9 h513 hq
  obtain ⟨y512, rfl, hv⟩ := hv
  refine aw_eqv (pc2 := 1658) (st2 := [.int y512]) rfl rfl rfl rfl ?_
  revert hv hc9 hs9; generalize c + mc2 = c514; generalize s + ms2 = s515; intro hc9 hs9 hv
  refine aw_istore (lv' := [(5, .int y512), (0, .ref G.2.2.1), (1, .ref x1), (2, .ref x2), (3, .ref x3), (4, .int x4)]) dL_law_1658 (Nat.le_of_ble_eq_true rfl) rfl ?_
  refine aw_aload_n 3 (x := x2) dL_law_1660 rfl rfl ?_
  refine aw_aload_n 1 (x := G.2.2.1) dL_law_1661 rfl rfl ?_
  refine aw_iload 5 dL_law_1662 rfl ?_
  refine aw_iconst (v := 1) dL_law_1664 (by decide) ?_
  refine aw_iadd dL_law_1665 ?_
  obtain ⟨z516, hv⟩ := hv
  refine aw_sld z516 dL_law_1666 ?_
  obtain ⟨⟨fs, he⟩, hv⟩ := hv
  obtain ⟨d2, mc2, ms2, Q, hM, hd9, hc9, hs9, hv, hx⟩ := hv
  refine aw_callV (rest := []) hM he rfl rfl nX6_firstThing q2195 q2196 q2197 q137 q2198 dL_law_1667 rfl hd9 (by decide) (Nat.le_of_ble_eq_true rfl) hc9 hs9 ?_ ?_
  rotate_left
  · exact fun E h2 q => aX_out (hx E h2 q) rfl hc9 hs9
  intro v9 h518 hq
  have hv := hv v9 h518 hq
  obtain ⟨y517, rfl, hv⟩ := hv
  refine aw_eqv (pc2 := 1670) (st2 := [.int y517]) rfl rfl rfl rfl ?_
  revert hv hc9 hs9; generalize c514 + mc2 = c519; generalize s515 + ms2 = s520; intro hc9 hs9 hv
  refine aw_istore (lv' := [(6, .int y517), (5, .int y512), (0, .ref G.2.2.1), (1, .ref x1), (2, .ref x2), (3, .ref x3), (4, .int x4)]) dL_law_1670 (Nat.le_of_ble_eq_true rfl) rfl ?_
  refine aw_aload_n 4 (x := x2) dL_law_1672 rfl rfl ?_
  obtain ⟨⟨fs, he⟩, hv⟩ := hv
  obtain ⟨d2, mc2, ms2, Q, hM, hd9, hc9, hs9, hv, hx⟩ := hv
  refine aw_callV (rest := []) hM he rfl rfl nX6_thrown q1814 q1815 q1816 q137 q1817 dL_law_1673 rfl hd9 (by decide) (Nat.le_of_ble_eq_true rfl) hc9 hs9 ?_ ?_
  rotate_left
  · exact fun E h2 q => aX_out (hx E h2 q) rfl hc9 hs9
  intro v9 h522 hq
  have hv := hv v9 h522 hq
  obtain ⟨y521, rfl, hv⟩ := hv
  refine aw_eqv (pc2 := 1676) (st2 := [.int y521]) rfl rfl rfl rfl ?_
  revert hv hc9 hs9; generalize c519 + mc2 = c523; generalize s520 + ms2 = s524; intro hc9 hs9 hv
  refine aw_iload 1 dL_law_1676 rfl ?_
  refine aw_icmp_eq 1683 dL_law_1678 (by decide) (fun c525 => ?_) (fun c525 => ?_)
  · have hv := hv.1 c525
    refine aw_iload 1 dL_law_1683 rfl ?_
    refine aw_if_ne 1700 dL_law_1685 (by decide) (fun c526 => ?_) (fun c526 => ?_)
    · have hv := hv.1 c526
      refine aw_goto 2161 dL_law_1700 (by decide) ?_
      refine aw_sub [2, 3, 4, 5, 6] rfl ?_
      exact hv hc9 hs9
    · have hv := hv.2 c526
      refine aw_aload_n 5 (x := x3) dL_law_1688 rfl rfl ?_
      refine aw_iconst (v := 0) dL_law_1689 (by decide) ?_
      obtain ⟨n9, f9, he, hin, hv⟩ := hv
      refine aw_lald he hin dL_law_1690 ?_
      revert hv; generalize f9 ((0 : Int32)).toNatClampNeg = y527; intro hv
      refine aw_iload 0 dL_law_1691 rfl ?_
      refine aw_i2l dL_law_1693 ?_
      refine aw_lcmp dL_law_1694 ?_
      refine aw_if_eq 1700 dL_law_1695 (by decide) (fun c528 => ?_) (fun c528 => ?_)
      · have hv := hv.1 c528
        refine aw_goto 2161 dL_law_1700 (by decide) ?_
        refine aw_sub [2, 3, 4, 5, 6] rfl ?_
        exact hv hc9 hs9
      · have hv := hv.2 c528
        refine aw_iconst (v := 0) dL_law_1698 (by decide) ?_
        exact aw_zret rfl rfl dL_law_1699 hv hc9 hs9
  · have hv := hv.2 c525
    refine aw_iconst (v := 0) dL_law_1681 (by decide) ?_
    exact aw_zret rfl rfl dL_law_1682 hv hc9 hs9
def V_L_law_1703 (l : Launch) (G : aG) (d mc ms : Nat) (P : aR → aH → Prop) (x1 : Nat) (x2 : Nat) (x3 : Nat) (x4 : Int32) (h : aH) (c s : Nat) : Prop :=
  vIs h x1 1 (
  vC l G mX1_sameInAll (wsN mX1_sameInAll) d mc ms [.ref x1] h c s (xP P) (kL fun y529 h530 c531 s532 => 
  vIs h530 x2 0 (
  vC l G mX6_sameInAll (wsN mX6_sameInAll) d mc ms [.ref x2] h530 c531 s532 (xP P) (kL fun y533 h534 c535 s536 => 
  ((lg_cmp y529 y533) = 0 → 
    T_L_law_2161 l G d mc ms P x1 x2 x3 x4 h534 c535 s536
    ) ∧ (¬ (lg_cmp y529 y533) = 0 → 
    P (.inl (some (.int 0))) h534
    )))))
set_option maxHeartbeats 4000000 in
theorem A_L_law_1703 {l : Launch} {G : aG} {d mc ms : Nat} {P : aR → aH → Prop} {x1 : Nat} {x2 : Nat} {x3 : Nat} {x4 : Int32} {h : aH} {c s : Nat} (hl : l.stackTraces = false) (hv : V_L_law_1703 l G d mc ms P x1 x2 x3 x4 h c s) : T_L_law_1703 l G d mc ms P x1 x2 x3 x4 h c s := by
  intro hc hs
  unfold V_L_law_1703 at hv
  refine aw_aload_n 1 (x := x1) dL_law_1703 rfl rfl ?_
  obtain ⟨⟨fs, he⟩, hv⟩ := hv
  obtain ⟨d2, mc2, ms2, Q, hM, hd9, hc9, hs9, hv, hx⟩ := hv
  refine aw_callV (rest := []) hM he rfl rfl nX1_sameInAll q843 q844 q845 q119 q846 dL_law_1704 rfl hd9 (by decide) (Nat.le_of_ble_eq_true rfl) hc9 hs9 ?_ ?_
  rotate_left
  · exact fun E h2 q => aX_out (hx E h2 q) rfl hc9 hs9
  intro v9 h530 hq
  have hv := hv v9 h530 hq
  obtain ⟨y529, rfl, hv⟩ := hv
  refine aw_eqv (pc2 := 1707) (st2 := [.long y529]) rfl rfl rfl rfl ?_
  revert hv hc9 hs9; generalize c + mc2 = c531; generalize s + ms2 = s532; intro hc9 hs9 hv
  refine aw_aload_n 2 (x := x2) dL_law_1707 rfl rfl ?_
  obtain ⟨⟨fs, he⟩, hv⟩ := hv
  obtain ⟨d2, mc2, ms2, Q, hM, hd9, hc9, hs9, hv, hx⟩ := hv
  refine aw_callV (rest := [.long y529]) hM he rfl rfl nX6_sameInAll q2199 q2200 q2201 q137 q2202 dL_law_1708 rfl hd9 (by decide) (Nat.le_of_ble_eq_true rfl) hc9 hs9 ?_ ?_
  rotate_left
  · exact fun E h2 q => aX_out (hx E h2 q) rfl hc9 hs9
  intro v9 h534 hq
  have hv := hv v9 h534 hq
  obtain ⟨y533, rfl, hv⟩ := hv
  refine aw_eqv (pc2 := 1711) (st2 := [.long y533, .long y529]) rfl rfl rfl rfl ?_
  revert hv hc9 hs9; generalize c531 + mc2 = c535; generalize s532 + ms2 = s536; intro hc9 hs9 hv
  refine aw_lcmp dL_law_1711 ?_
  refine aw_if_eq 2161 dL_law_1712 (by decide) (fun c537 => ?_) (fun c537 => ?_)
  · have hv := hv.1 c537
    exact hv hc9 hs9
  · have hv := hv.2 c537
    refine aw_iconst (v := 0) dL_law_1715 (by decide) ?_
    exact aw_zret rfl rfl dL_law_1716 hv hc9 hs9
def V_L_law_1717 (l : Launch) (G : aG) (d mc ms : Nat) (P : aR → aH → Prop) (x1 : Nat) (x2 : Nat) (x3 : Nat) (x4 : Int32) (h : aH) (c s : Nat) : Prop :=
  vp_in (x4 + (1 : Int32)) G.2.2.2.1 ∧
  vC l G mX0_isNeeded (wsX mX0_isNeeded) d mc ms [.ref x1, .int (G.2.2.2.2 (x4 + (1 : Int32)).toNatClampNeg), .ref x3] h c s (xP P) (kI fun y539 h540 c541 s542 => 
  vp_in (x4 + (1 : Int32)) G.2.2.2.1 ∧
  vIs h540 x2 0 (
  vC l G mX6_isNeeded (wsN mX6_isNeeded) d mc ms [.ref x2, .int (G.2.2.2.2 (x4 + (1 : Int32)).toNatClampNeg)] h540 c541 s542 (xP P) (kI fun y544 h545 c546 s547 => 
  vIs h545 x2 0 (
  vC l G mX6_thrown (wsN mX6_thrown) d mc ms [.ref x2] h545 c546 s547 (xP P) (kI fun y548 h549 c550 s551 => 
  (y548 = y539 → 
    (¬ y539 = 0 → 
      T_L_law_2161 l G d mc ms P x1 x2 x3 x4 h549 c550 s551
      ) ∧ (y539 = 0 → 
      vAL h549 x3 (0 : Int32) fun y554 =>
      ((lg_cmp y554 (if y544 = 0 then (0 : Int64) else 1)) = 0 → 
        T_L_law_2161 l G d mc ms P x1 x2 x3 x4 h549 c550 s551
        ) ∧ (¬ (lg_cmp y554 (if y544 = 0 then (0 : Int64) else 1)) = 0 → 
        P (.inl (some (.int 0))) h549
        )
      )
    ) ∧ (¬ y548 = y539 → 
    P (.inl (some (.int 0))) h549
    ))))))
set_option maxHeartbeats 4000000 in
theorem A_L_law_1717 {l : Launch} {G : aG} {d mc ms : Nat} {P : aR → aH → Prop} {x1 : Nat} {x2 : Nat} {x3 : Nat} {x4 : Int32} {h : aH} {c s : Nat} (hl : l.stackTraces = false) (hv : V_L_law_1717 l G d mc ms P x1 x2 x3 x4 h c s) : T_L_law_1717 l G d mc ms P x1 x2 x3 x4 h c s := by
  intro hc hs
  unfold V_L_law_1717 at hv
  refine aw_aload_n 1 (x := x1) dL_law_1717 rfl rfl ?_
  refine aw_aload_n 0 (x := G.2.2.1) dL_law_1718 rfl rfl ?_
  refine aw_iload 4 dL_law_1719 rfl ?_
  refine aw_iconst (v := 1) dL_law_1721 (by decide) ?_
  refine aw_iadd dL_law_1722 ?_
  obtain ⟨z538, hv⟩ := hv
  refine aw_sld z538 dL_law_1723 ?_
  refine aw_aload_n 3 (x := x3) dL_law_1724 rfl rfl ?_
  obtain ⟨d2, mc2, ms2, Q, hM, hd9, hc9, hs9, hv, hx⟩ := hv
  refine aw_callSW (rest := []) hM nX0_isNeeded q1639 q1640 q118 q1641 dL_law_1725 rfl hd9 (by decide) (Nat.le_of_ble_eq_true rfl) hc9 hs9 ?_ ?_
  rotate_left
  · exact fun E h2 q => aX_out (hx E h2 q) rfl hc9 hs9
  intro v9 h540 hq
  have hv := hv v9 h540 hq
  obtain ⟨y539, rfl, hv⟩ := hv
  refine aw_eqv (pc2 := 1728) (st2 := [.int y539]) rfl rfl rfl rfl ?_
  revert hv hc9 hs9; generalize c + mc2 = c541; generalize s + ms2 = s542; intro hc9 hs9 hv
  refine aw_istore (lv' := [(5, .int y539), (0, .ref G.2.2.1), (1, .ref x1), (2, .ref x2), (3, .ref x3), (4, .int x4)]) dL_law_1728 (Nat.le_of_ble_eq_true rfl) rfl ?_
  refine aw_aload_n 3 (x := x2) dL_law_1730 rfl rfl ?_
  refine aw_aload_n 1 (x := G.2.2.1) dL_law_1731 rfl rfl ?_
  refine aw_iload 5 dL_law_1732 rfl ?_
  refine aw_iconst (v := 1) dL_law_1734 (by decide) ?_
  refine aw_iadd dL_law_1735 ?_
  obtain ⟨z543, hv⟩ := hv
  refine aw_sld z543 dL_law_1736 ?_
  obtain ⟨⟨fs, he⟩, hv⟩ := hv
  obtain ⟨d2, mc2, ms2, Q, hM, hd9, hc9, hs9, hv, hx⟩ := hv
  refine aw_callV (rest := []) hM he rfl rfl nX6_isNeeded q2203 q2204 q2205 q137 q2206 dL_law_1737 rfl hd9 (by decide) (Nat.le_of_ble_eq_true rfl) hc9 hs9 ?_ ?_
  rotate_left
  · exact fun E h2 q => aX_out (hx E h2 q) rfl hc9 hs9
  intro v9 h545 hq
  have hv := hv v9 h545 hq
  obtain ⟨y544, rfl, hv⟩ := hv
  refine aw_eqv (pc2 := 1740) (st2 := [.int y544]) rfl rfl rfl rfl ?_
  revert hv hc9 hs9; generalize c541 + mc2 = c546; generalize s542 + ms2 = s547; intro hc9 hs9 hv
  refine aw_istore (lv' := [(6, .int y544), (5, .int y539), (0, .ref G.2.2.1), (1, .ref x1), (2, .ref x2), (3, .ref x3), (4, .int x4)]) dL_law_1740 (Nat.le_of_ble_eq_true rfl) rfl ?_
  refine aw_aload_n 4 (x := x2) dL_law_1742 rfl rfl ?_
  obtain ⟨⟨fs, he⟩, hv⟩ := hv
  obtain ⟨d2, mc2, ms2, Q, hM, hd9, hc9, hs9, hv, hx⟩ := hv
  refine aw_callV (rest := []) hM he rfl rfl nX6_thrown q1814 q1815 q1816 q137 q1817 dL_law_1743 rfl hd9 (by decide) (Nat.le_of_ble_eq_true rfl) hc9 hs9 ?_ ?_
  rotate_left
  · exact fun E h2 q => aX_out (hx E h2 q) rfl hc9 hs9
  intro v9 h549 hq
  have hv := hv v9 h549 hq
  obtain ⟨y548, rfl, hv⟩ := hv
  refine aw_eqv (pc2 := 1746) (st2 := [.int y548]) rfl rfl rfl rfl ?_
  revert hv hc9 hs9; generalize c546 + mc2 = c550; generalize s547 + ms2 = s551; intro hc9 hs9 hv
  refine aw_iload 1 dL_law_1746 rfl ?_
  refine aw_icmp_eq 1753 dL_law_1748 (by decide) (fun c552 => ?_) (fun c552 => ?_)
  · have hv := hv.1 c552
    refine aw_iload 1 dL_law_1753 rfl ?_
    refine aw_if_ne 1777 dL_law_1755 (by decide) (fun c553 => ?_) (fun c553 => ?_)
    · have hv := hv.1 c553
      refine aw_goto 2161 dL_law_1777 (by decide) ?_
      refine aw_sub [2, 3, 4, 5, 6] rfl ?_
      exact hv hc9 hs9
    · have hv := hv.2 c553
      refine aw_aload_n 5 (x := x3) dL_law_1758 rfl rfl ?_
      refine aw_iconst (v := 0) dL_law_1759 (by decide) ?_
      obtain ⟨n9, f9, he, hin, hv⟩ := hv
      refine aw_lald he hin dL_law_1760 ?_
      revert hv; generalize f9 ((0 : Int32)).toNatClampNeg = y554; intro hv
      refine aw_iload 0 dL_law_1761 rfl ?_
      have J9 : AW l G mL_law d mc ms P 1771 [(6, .int y544), (5, .int y539), (0, .ref G.2.2.1), (1, .ref x1), (2, .ref x2), (3, .ref x3), (4, .int x4)] [.long (if y544 = 0 then (0 : Int64) else 1), .long y554] h549 c550 s551 := by
        refine aw_lcmp dL_law_1771 ?_
        refine aw_if_eq 1777 dL_law_1772 (by decide) (fun c556 => ?_) (fun c556 => ?_)
        · have hv := hv.1 c556
          refine aw_goto 2161 dL_law_1777 (by decide) ?_
          refine aw_sub [2, 3, 4, 5, 6] rfl ?_
          exact hv hc9 hs9
        · have hv := hv.2 c556
          refine aw_iconst (v := 0) dL_law_1775 (by decide) ?_
          exact aw_zret rfl rfl dL_law_1776 hv hc9 hs9
      refine aw_if_eq 1770 dL_law_1763 (by decide) (fun c555 => ?_) (fun c555 => ?_)
      · have J9 := aw_ifTL c555 J9
        refine aw_lconst (v := 0) dL_law_1770 (by decide) ?_
        exact J9
      · have J9 := aw_ifFL c555 J9
        refine aw_lconst (v := 1) dL_law_1766 (by decide) ?_
        refine aw_goto 1771 dL_law_1767 (by decide) ?_
        exact J9
  · have hv := hv.2 c552
    refine aw_iconst (v := 0) dL_law_1751 (by decide) ?_
    exact aw_zret rfl rfl dL_law_1752 hv hc9 hs9
def V_L_law_1780 (l : Launch) (G : aG) (d mc ms : Nat) (P : aR → aH → Prop) (x1 : Nat) (x2 : Nat) (x3 : Nat) (x4 : Int32) (h : aH) (c s : Nat) : Prop :=
  vIs h x1 1 (
  vC l G mX1_crossedShare (wsN mX1_crossedShare) d mc ms [.ref x1] h c s (xP P) (kD fun y557 h558 c559 s560 => 
  vIs h558 x2 0 (
  vC l G mX6_crossedShare (wsN mX6_crossedShare) d mc ms [.ref x2] h558 c559 s560 (xP P) (kD fun y561 h562 c563 s564 => 
  ((Op.cmpValue (FP.dcmp y557 y561) .l) = 0 → 
    T_L_law_2161 l G d mc ms P x1 x2 x3 x4 h562 c563 s564
    ) ∧ (¬ (Op.cmpValue (FP.dcmp y557 y561) .l) = 0 → 
    ((Op.cmpValue (FP.dcmp y557 y557) .l) = 0 → 
      P (.inl (some (.int 0))) h562
      ) ∧ (¬ (Op.cmpValue (FP.dcmp y557 y557) .l) = 0 → 
      (¬ (Op.cmpValue (FP.dcmp y561 y561) .l) = 0 → 
        T_L_law_2161 l G d mc ms P x1 x2 x3 x4 h562 c563 s564
        ) ∧ ((Op.cmpValue (FP.dcmp y561 y561) .l) = 0 → 
        P (.inl (some (.int 0))) h562
        )
      )
    )))))
set_option maxHeartbeats 4000000 in
theorem A_L_law_1780 {l : Launch} {G : aG} {d mc ms : Nat} {P : aR → aH → Prop} {x1 : Nat} {x2 : Nat} {x3 : Nat} {x4 : Int32} {h : aH} {c s : Nat} (hl : l.stackTraces = false) (hv : V_L_law_1780 l G d mc ms P x1 x2 x3 x4 h c s) : T_L_law_1780 l G d mc ms P x1 x2 x3 x4 h c s := by
  intro hc hs
  unfold V_L_law_1780 at hv
  refine aw_aload_n 1 (x := x1) dL_law_1780 rfl rfl ?_
  obtain ⟨⟨fs, he⟩, hv⟩ := hv
  obtain ⟨d2, mc2, ms2, Q, hM, hd9, hc9, hs9, hv, hx⟩ := hv
  refine aw_callV (rest := []) hM he rfl rfl nX1_crossedShare q847 q848 q849 q119 q850 dL_law_1781 rfl hd9 (by decide) (Nat.le_of_ble_eq_true rfl) hc9 hs9 ?_ ?_
  rotate_left
  · exact fun E h2 q => aX_out (hx E h2 q) rfl hc9 hs9
  intro v9 h558 hq
  have hv := hv v9 h558 hq
  obtain ⟨y557, rfl, hv⟩ := hv
  refine aw_eqv (pc2 := 1784) (st2 := [.double y557]) rfl rfl rfl rfl ?_
  revert hv hc9 hs9; generalize c + mc2 = c559; generalize s + ms2 = s560; intro hc9 hs9 hv
  refine aw_dstore (lv' := [(5, .double y557), (0, .ref G.2.2.1), (1, .ref x1), (2, .ref x2), (3, .ref x3), (4, .int x4)]) dL_law_1784 (Nat.le_of_ble_eq_true rfl) rfl ?_
  refine aw_aload_n 3 (x := x2) dL_law_1786 rfl rfl ?_
  obtain ⟨⟨fs, he⟩, hv⟩ := hv
  obtain ⟨d2, mc2, ms2, Q, hM, hd9, hc9, hs9, hv, hx⟩ := hv
  refine aw_callV (rest := []) hM he rfl rfl nX6_crossedShare q2207 q2208 q2209 q137 q2210 dL_law_1787 rfl hd9 (by decide) (Nat.le_of_ble_eq_true rfl) hc9 hs9 ?_ ?_
  rotate_left
  · exact fun E h2 q => aX_out (hx E h2 q) rfl hc9 hs9
  intro v9 h562 hq
  have hv := hv v9 h562 hq
  obtain ⟨y561, rfl, hv⟩ := hv
  refine aw_eqv (pc2 := 1790) (st2 := [.double y561]) rfl rfl rfl rfl ?_
  revert hv hc9 hs9; generalize c559 + mc2 = c563; generalize s560 + ms2 = s564; intro hc9 hs9 hv
  refine aw_dstore (lv' := [(7, .double y561), (5, .double y557), (0, .ref G.2.2.1), (1, .ref x1), (2, .ref x2), (3, .ref x3), (4, .int x4)]) dL_law_1790 (Nat.le_of_ble_eq_true rfl) rfl ?_
  refine aw_dload 1 dL_law_1792 rfl ?_
  refine aw_dload 0 dL_law_1794 rfl ?_
  refine aw_dcmp dL_law_1796 ?_
  refine aw_if_eq 1818 dL_law_1797 (by decide) (fun c565 => ?_) (fun c565 => ?_)
  · have hv := hv.1 c565
    refine aw_goto 2161 dL_law_1818 (by decide) ?_
    refine aw_sub [2, 3, 4, 5, 6] rfl ?_
    exact hv hc9 hs9
  · have hv := hv.2 c565
    refine aw_dload 1 dL_law_1800 rfl ?_
    refine aw_dload 1 dL_law_1802 rfl ?_
    refine aw_dcmp dL_law_1804 ?_
    refine aw_if_eq 1816 dL_law_1805 (by decide) (fun c566 => ?_) (fun c566 => ?_)
    · have hv := hv.1 c566
      refine aw_iconst (v := 0) dL_law_1816 (by decide) ?_
      exact aw_zret rfl rfl dL_law_1817 hv hc9 hs9
    · have hv := hv.2 c566
      refine aw_dload 0 dL_law_1808 rfl ?_
      refine aw_dload 0 dL_law_1810 rfl ?_
      refine aw_dcmp dL_law_1812 ?_
      refine aw_if_ne 1818 dL_law_1813 (by decide) (fun c567 => ?_) (fun c567 => ?_)
      · have hv := hv.1 c567
        refine aw_goto 2161 dL_law_1818 (by decide) ?_
        refine aw_sub [2, 3, 4, 5, 6] rfl ?_
        exact hv hc9 hs9
      · have hv := hv.2 c567
        refine aw_iconst (v := 0) dL_law_1816 (by decide) ?_
        exact aw_zret rfl rfl dL_law_1817 hv hc9 hs9
def V_L_law_1821 (l : Launch) (G : aG) (d mc ms : Nat) (P : aR → aH → Prop) (x1 : Nat) (x2 : Nat) (x3 : Nat) (x4 : Int32) (h : aH) (c s : Nat) : Prop :=
  vp_in (x4 + (1 : Int32)) G.2.2.2.1 ∧
  vp_in (x4 + (2 : Int32)) G.2.2.2.1 ∧
  vC l G mX0_appendText (wsX mX0_appendText) d mc ms [.ref x1, .long ((((G.2.2.2.2 (x4 + (1 : Int32)).toNatClampNeg).toInt64) <<< ((32 : Int32).toInt64 &&& 63)) ||| (((G.2.2.2.2 (x4 + (2 : Int32)).toNatClampNeg).toInt64) &&& (4294967295 : Int64))), .ref x3] h c s (xP P) (kI fun y570 h571 c572 s573 => 
  vp_in (x4 + (1 : Int32)) G.2.2.2.1 ∧
  vp_in (x4 + (2 : Int32)) G.2.2.2.1 ∧
  vIs h571 x2 0 (
  vC l G mX6_appendText (wsN mX6_appendText) d mc ms [.ref x2, .long ((((G.2.2.2.2 (x4 + (1 : Int32)).toNatClampNeg).toInt64) <<< ((32 : Int32).toInt64 &&& 63)) ||| (((G.2.2.2.2 (x4 + (2 : Int32)).toNatClampNeg).toInt64) &&& (4294967295 : Int64)))] h571 c572 s573 (xP P) (kI fun y576 h577 c578 s579 => 
  vIs h577 x2 0 (
  vC l G mX6_thrown (wsN mX6_thrown) d mc ms [.ref x2] h577 c578 s579 (xP P) (kI fun y580 h581 c582 s583 => 
  (y580 = y570 → 
    (¬ y570 = 0 → 
      T_L_law_2161 l G d mc ms P x1 x2 x3 x4 h581 c582 s583
      ) ∧ (y570 = 0 → 
      vAL h581 x3 (0 : Int32) fun y586 =>
      ((lg_cmp y586 y576.toInt64) = 0 → 
        T_L_law_2161 l G d mc ms P x1 x2 x3 x4 h581 c582 s583
        ) ∧ (¬ (lg_cmp y586 y576.toInt64) = 0 → 
        P (.inl (some (.int 0))) h581
        )
      )
    ) ∧ (¬ y580 = y570 → 
    P (.inl (some (.int 0))) h581
    ))))))
set_option maxHeartbeats 4000000 in
theorem A_L_law_1821 {l : Launch} {G : aG} {d mc ms : Nat} {P : aR → aH → Prop} {x1 : Nat} {x2 : Nat} {x3 : Nat} {x4 : Int32} {h : aH} {c s : Nat} (hl : l.stackTraces = false) (hv : V_L_law_1821 l G d mc ms P x1 x2 x3 x4 h c s) : T_L_law_1821 l G d mc ms P x1 x2 x3 x4 h c s := by
  intro hc hs
  unfold V_L_law_1821 at hv
  refine aw_aload_n 1 (x := x1) dL_law_1821 rfl rfl ?_
  refine aw_aload_n 0 (x := G.2.2.1) dL_law_1822 rfl rfl ?_
  refine aw_iload 4 dL_law_1823 rfl ?_
  refine aw_iconst (v := 1) dL_law_1825 (by decide) ?_
  refine aw_iadd dL_law_1826 ?_
  obtain ⟨z568, hv⟩ := hv
  refine aw_sld z568 dL_law_1827 ?_
  refine aw_i2l dL_law_1828 ?_
  refine aw_bipush (v := 32) dL_law_1829 (by decide) ?_
  refine aw_lshl dL_law_1831 ?_
  refine aw_aload_n 0 (x := G.2.2.1) dL_law_1832 rfl rfl ?_
  refine aw_iload 4 dL_law_1833 rfl ?_
  refine aw_iconst (v := 2) dL_law_1835 (by decide) ?_
  refine aw_iadd dL_law_1836 ?_
  obtain ⟨z569, hv⟩ := hv
  refine aw_sld z569 dL_law_1837 ?_
  refine aw_i2l dL_law_1838 ?_
  refine aw_ldc2 (v := 4294967295) q2294 dL_law_1839 ?_
  refine aw_land dL_law_1842 ?_
  refine aw_lor dL_law_1843 ?_
  refine aw_aload_n 3 (x := x3) dL_law_1844 rfl rfl ?_
  obtain ⟨d2, mc2, ms2, Q, hM, hd9, hc9, hs9, hv, hx⟩ := hv
  refine aw_callSW (rest := []) hM nX0_appendText q1647 q1648 q118 q1649 dL_law_1845 rfl hd9 (by decide) (Nat.le_of_ble_eq_true rfl) hc9 hs9 ?_ ?_
  rotate_left
  · exact fun E h2 q => aX_out (hx E h2 q) rfl hc9 hs9
  intro v9 h571 hq
  have hv := hv v9 h571 hq
  obtain ⟨y570, rfl, hv⟩ := hv
  refine aw_eqv (pc2 := 1848) (st2 := [.int y570]) rfl rfl rfl rfl ?_
  revert hv hc9 hs9; generalize c + mc2 = c572; generalize s + ms2 = s573; intro hc9 hs9 hv
  refine aw_istore (lv' := [(5, .int y570), (0, .ref G.2.2.1), (1, .ref x1), (2, .ref x2), (3, .ref x3), (4, .int x4)]) dL_law_1848 (Nat.le_of_ble_eq_true rfl) rfl ?_
  refine aw_aload_n 3 (x := x2) dL_law_1850 rfl rfl ?_
  refine aw_aload_n 1 (x := G.2.2.1) dL_law_1851 rfl rfl ?_
  refine aw_iload 5 dL_law_1852 rfl ?_
  refine aw_iconst (v := 1) dL_law_1854 (by decide) ?_
  refine aw_iadd dL_law_1855 ?_
  obtain ⟨z574, hv⟩ := hv
  refine aw_sld z574 dL_law_1856 ?_
  refine aw_i2l dL_law_1857 ?_
  refine aw_bipush (v := 32) dL_law_1858 (by decide) ?_
  refine aw_lshl dL_law_1860 ?_
  refine aw_aload_n 1 (x := G.2.2.1) dL_law_1861 rfl rfl ?_
  refine aw_iload 5 dL_law_1862 rfl ?_
  refine aw_iconst (v := 2) dL_law_1864 (by decide) ?_
  refine aw_iadd dL_law_1865 ?_
  obtain ⟨z575, hv⟩ := hv
  refine aw_sld z575 dL_law_1866 ?_
  refine aw_i2l dL_law_1867 ?_
  refine aw_ldc2 (v := 4294967295) q2294 dL_law_1868 ?_
  refine aw_land dL_law_1871 ?_
  refine aw_lor dL_law_1872 ?_
  obtain ⟨⟨fs, he⟩, hv⟩ := hv
  obtain ⟨d2, mc2, ms2, Q, hM, hd9, hc9, hs9, hv, hx⟩ := hv
  refine aw_callV (rest := []) hM he rfl rfl nX6_appendText q2211 q2212 q2213 q137 q2214 dL_law_1873 rfl hd9 (by decide) (Nat.le_of_ble_eq_true rfl) hc9 hs9 ?_ ?_
  rotate_left
  · exact fun E h2 q => aX_out (hx E h2 q) rfl hc9 hs9
  intro v9 h577 hq
  have hv := hv v9 h577 hq
  obtain ⟨y576, rfl, hv⟩ := hv
  refine aw_eqv (pc2 := 1876) (st2 := [.int y576]) rfl rfl rfl rfl ?_
  revert hv hc9 hs9; generalize c572 + mc2 = c578; generalize s573 + ms2 = s579; intro hc9 hs9 hv
  refine aw_istore (lv' := [(6, .int y576), (5, .int y570), (0, .ref G.2.2.1), (1, .ref x1), (2, .ref x2), (3, .ref x3), (4, .int x4)]) dL_law_1876 (Nat.le_of_ble_eq_true rfl) rfl ?_
  refine aw_aload_n 4 (x := x2) dL_law_1878 rfl rfl ?_
  obtain ⟨⟨fs, he⟩, hv⟩ := hv
  obtain ⟨d2, mc2, ms2, Q, hM, hd9, hc9, hs9, hv, hx⟩ := hv
  refine aw_callV (rest := []) hM he rfl rfl nX6_thrown q1814 q1815 q1816 q137 q1817 dL_law_1879 rfl hd9 (by decide) (Nat.le_of_ble_eq_true rfl) hc9 hs9 ?_ ?_
  rotate_left
  · exact fun E h2 q => aX_out (hx E h2 q) rfl hc9 hs9
  intro v9 h581 hq
  have hv := hv v9 h581 hq
  obtain ⟨y580, rfl, hv⟩ := hv
  refine aw_eqv (pc2 := 1882) (st2 := [.int y580]) rfl rfl rfl rfl ?_
  revert hv hc9 hs9; generalize c578 + mc2 = c582; generalize s579 + ms2 = s583; intro hc9 hs9 hv
  refine aw_iload 1 dL_law_1882 rfl ?_
  refine aw_icmp_eq 1889 dL_law_1884 (by decide) (fun c584 => ?_) (fun c584 => ?_)
  · have hv := hv.1 c584
    refine aw_iload 1 dL_law_1889 rfl ?_
    refine aw_if_ne 1906 dL_law_1891 (by decide) (fun c585 => ?_) (fun c585 => ?_)
    · have hv := hv.1 c585
      refine aw_goto 2161 dL_law_1906 (by decide) ?_
      refine aw_sub [2, 3, 4, 5, 6] rfl ?_
      exact hv hc9 hs9
    · have hv := hv.2 c585
      refine aw_aload_n 5 (x := x3) dL_law_1894 rfl rfl ?_
      refine aw_iconst (v := 0) dL_law_1895 (by decide) ?_
      obtain ⟨n9, f9, he, hin, hv⟩ := hv
      refine aw_lald he hin dL_law_1896 ?_
      revert hv; generalize f9 ((0 : Int32)).toNatClampNeg = y586; intro hv
      refine aw_iload 0 dL_law_1897 rfl ?_
      refine aw_i2l dL_law_1899 ?_
      refine aw_lcmp dL_law_1900 ?_
      refine aw_if_eq 1906 dL_law_1901 (by decide) (fun c587 => ?_) (fun c587 => ?_)
      · have hv := hv.1 c587
        refine aw_goto 2161 dL_law_1906 (by decide) ?_
        refine aw_sub [2, 3, 4, 5, 6] rfl ?_
        exact hv hc9 hs9
      · have hv := hv.2 c587
        refine aw_iconst (v := 0) dL_law_1904 (by decide) ?_
        exact aw_zret rfl rfl dL_law_1905 hv hc9 hs9
  · have hv := hv.2 c584
    refine aw_iconst (v := 0) dL_law_1887 (by decide) ?_
    exact aw_zret rfl rfl dL_law_1888 hv hc9 hs9
def V_L_law_1909 (l : Launch) (G : aG) (d mc ms : Nat) (P : aR → aH → Prop) (x1 : Nat) (x2 : Nat) (x3 : Nat) (x4 : Int32) (h : aH) (c s : Nat) : Prop :=
  vIs h x1 1 (
  vC l G mX1_clearText (wsN mX1_clearText) d mc ms [.ref x1] h c s (xP P) (kI fun y588 h589 c590 s591 => 
  vIs h589 x2 0 (
  vC l G mX6_clearText (wsN mX6_clearText) d mc ms [.ref x2] h589 c590 s591 (xP P) (kI fun y592 h593 c594 s595 => 
  (y588 = y592 → 
    T_L_law_2161 l G d mc ms P x1 x2 x3 x4 h593 c594 s595
    ) ∧ (¬ y588 = y592 → 
    P (.inl (some (.int 0))) h593
    )))))
set_option maxHeartbeats 4000000 in
theorem A_L_law_1909 {l : Launch} {G : aG} {d mc ms : Nat} {P : aR → aH → Prop} {x1 : Nat} {x2 : Nat} {x3 : Nat} {x4 : Int32} {h : aH} {c s : Nat} (hl : l.stackTraces = false) (hv : V_L_law_1909 l G d mc ms P x1 x2 x3 x4 h c s) : T_L_law_1909 l G d mc ms P x1 x2 x3 x4 h c s := by
  intro hc hs
  unfold V_L_law_1909 at hv
  refine aw_aload_n 1 (x := x1) dL_law_1909 rfl rfl ?_
  obtain ⟨⟨fs, he⟩, hv⟩ := hv
  obtain ⟨d2, mc2, ms2, Q, hM, hd9, hc9, hs9, hv, hx⟩ := hv
  refine aw_callV (rest := []) hM he rfl rfl nX1_clearText q855 q856 q857 q119 q858 dL_law_1910 rfl hd9 (by decide) (Nat.le_of_ble_eq_true rfl) hc9 hs9 ?_ ?_
  rotate_left
  · exact fun E h2 q => aX_out (hx E h2 q) rfl hc9 hs9
  intro v9 h589 hq
  have hv := hv v9 h589 hq
  obtain ⟨y588, rfl, hv⟩ := hv
  refine aw_eqv (pc2 := 1913) (st2 := [.int y588]) rfl rfl rfl rfl ?_
  revert hv hc9 hs9; generalize c + mc2 = c590; generalize s + ms2 = s591; intro hc9 hs9 hv
  refine aw_aload_n 2 (x := x2) dL_law_1913 rfl rfl ?_
  obtain ⟨⟨fs, he⟩, hv⟩ := hv
  obtain ⟨d2, mc2, ms2, Q, hM, hd9, hc9, hs9, hv, hx⟩ := hv
  refine aw_callV (rest := [.int y588]) hM he rfl rfl nX6_clearText q2219 q2220 q2221 q137 q2222 dL_law_1914 rfl hd9 (by decide) (Nat.le_of_ble_eq_true rfl) hc9 hs9 ?_ ?_
  rotate_left
  · exact fun E h2 q => aX_out (hx E h2 q) rfl hc9 hs9
  intro v9 h593 hq
  have hv := hv v9 h593 hq
  obtain ⟨y592, rfl, hv⟩ := hv
  refine aw_eqv (pc2 := 1917) (st2 := [.int y592, .int y588]) rfl rfl rfl rfl ?_
  revert hv hc9 hs9; generalize c590 + mc2 = c594; generalize s591 + ms2 = s595; intro hc9 hs9 hv
  refine aw_icmp_eq 2161 dL_law_1917 (by decide) (fun c596 => ?_) (fun c596 => ?_)
  · have hv := hv.1 c596
    exact hv hc9 hs9
  · have hv := hv.2 c596
    refine aw_iconst (v := 0) dL_law_1920 (by decide) ?_
    exact aw_zret rfl rfl dL_law_1921 hv hc9 hs9
def V_L_law_1922 (l : Launch) (G : aG) (d mc ms : Nat) (P : aR → aH → Prop) (x1 : Nat) (x2 : Nat) (x3 : Nat) (x4 : Int32) (h : aH) (c s : Nat) : Prop :=
  vIs h x1 1 (
  vC l G mX1_textLength (wsN mX1_textLength) d mc ms [.ref x1] h c s (xP P) (kI fun y597 h598 c599 s600 => 
  vIs h598 x2 0 (
  vC l G mX6_textLength (wsN mX6_textLength) d mc ms [.ref x2] h598 c599 s600 (xP P) (kI fun y601 h602 c603 s604 => 
  (y597 = y601 → 
    T_L_law_2161 l G d mc ms P x1 x2 x3 x4 h602 c603 s604
    ) ∧ (¬ y597 = y601 → 
    P (.inl (some (.int 0))) h602
    )))))
set_option maxHeartbeats 4000000 in
theorem A_L_law_1922 {l : Launch} {G : aG} {d mc ms : Nat} {P : aR → aH → Prop} {x1 : Nat} {x2 : Nat} {x3 : Nat} {x4 : Int32} {h : aH} {c s : Nat} (hl : l.stackTraces = false) (hv : V_L_law_1922 l G d mc ms P x1 x2 x3 x4 h c s) : T_L_law_1922 l G d mc ms P x1 x2 x3 x4 h c s := by
  intro hc hs
  unfold V_L_law_1922 at hv
  refine aw_aload_n 1 (x := x1) dL_law_1922 rfl rfl ?_
  obtain ⟨⟨fs, he⟩, hv⟩ := hv
  obtain ⟨d2, mc2, ms2, Q, hM, hd9, hc9, hs9, hv, hx⟩ := hv
  refine aw_callV (rest := []) hM he rfl rfl nX1_textLength q1188 q1189 q1190 q119 q1191 dL_law_1923 rfl hd9 (by decide) (Nat.le_of_ble_eq_true rfl) hc9 hs9 ?_ ?_
  rotate_left
  · exact fun E h2 q => aX_out (hx E h2 q) rfl hc9 hs9
  intro v9 h598 hq
  have hv := hv v9 h598 hq
  obtain ⟨y597, rfl, hv⟩ := hv
  refine aw_eqv (pc2 := 1926) (st2 := [.int y597]) rfl rfl rfl rfl ?_
  revert hv hc9 hs9; generalize c + mc2 = c599; generalize s + ms2 = s600; intro hc9 hs9 hv
  refine aw_aload_n 2 (x := x2) dL_law_1926 rfl rfl ?_
  obtain ⟨⟨fs, he⟩, hv⟩ := hv
  obtain ⟨d2, mc2, ms2, Q, hM, hd9, hc9, hs9, hv, hx⟩ := hv
  refine aw_callV (rest := [.int y597]) hM he rfl rfl nX6_textLength q2223 q2224 q2225 q137 q2226 dL_law_1927 rfl hd9 (by decide) (Nat.le_of_ble_eq_true rfl) hc9 hs9 ?_ ?_
  rotate_left
  · exact fun E h2 q => aX_out (hx E h2 q) rfl hc9 hs9
  intro v9 h602 hq
  have hv := hv v9 h602 hq
  obtain ⟨y601, rfl, hv⟩ := hv
  refine aw_eqv (pc2 := 1930) (st2 := [.int y601, .int y597]) rfl rfl rfl rfl ?_
  revert hv hc9 hs9; generalize c599 + mc2 = c603; generalize s600 + ms2 = s604; intro hc9 hs9 hv
  refine aw_icmp_eq 2161 dL_law_1930 (by decide) (fun c605 => ?_) (fun c605 => ?_)
  · have hv := hv.1 c605
    exact hv hc9 hs9
  · have hv := hv.2 c605
    refine aw_iconst (v := 0) dL_law_1933 (by decide) ?_
    exact aw_zret rfl rfl dL_law_1934 hv hc9 hs9
def V_L_law_1935 (l : Launch) (G : aG) (d mc ms : Nat) (P : aR → aH → Prop) (x1 : Nat) (x2 : Nat) (x3 : Nat) (x4 : Int32) (h : aH) (c s : Nat) : Prop :=
  vIs h x1 1 (
  vC l G mX1_textError (wsN mX1_textError) d mc ms [.ref x1] h c s (xP P) (kI fun y606 h607 c608 s609 => 
  vIs h607 x2 0 (
  vC l G mX6_textError (wsN mX6_textError) d mc ms [.ref x2] h607 c608 s609 (xP P) (kI fun y610 h611 c612 s613 => 
  (y606 = y610 → 
    T_L_law_2161 l G d mc ms P x1 x2 x3 x4 h611 c612 s613
    ) ∧ (¬ y606 = y610 → 
    P (.inl (some (.int 0))) h611
    )))))
set_option maxHeartbeats 4000000 in
theorem A_L_law_1935 {l : Launch} {G : aG} {d mc ms : Nat} {P : aR → aH → Prop} {x1 : Nat} {x2 : Nat} {x3 : Nat} {x4 : Int32} {h : aH} {c s : Nat} (hl : l.stackTraces = false) (hv : V_L_law_1935 l G d mc ms P x1 x2 x3 x4 h c s) : T_L_law_1935 l G d mc ms P x1 x2 x3 x4 h c s := by
  intro hc hs
  unfold V_L_law_1935 at hv
  refine aw_aload_n 1 (x := x1) dL_law_1935 rfl rfl ?_
  obtain ⟨⟨fs, he⟩, hv⟩ := hv
  obtain ⟨d2, mc2, ms2, Q, hM, hd9, hc9, hs9, hv, hx⟩ := hv
  refine aw_callV (rest := []) hM he rfl rfl nX1_textError q1192 q1193 q1194 q119 q1195 dL_law_1936 rfl hd9 (by decide) (Nat.le_of_ble_eq_true rfl) hc9 hs9 ?_ ?_
  rotate_left
  · exact fun E h2 q => aX_out (hx E h2 q) rfl hc9 hs9
  intro v9 h607 hq
  have hv := hv v9 h607 hq
  obtain ⟨y606, rfl, hv⟩ := hv
  refine aw_eqv (pc2 := 1939) (st2 := [.int y606]) rfl rfl rfl rfl ?_
  revert hv hc9 hs9; generalize c + mc2 = c608; generalize s + ms2 = s609; intro hc9 hs9 hv
  refine aw_aload_n 2 (x := x2) dL_law_1939 rfl rfl ?_
  obtain ⟨⟨fs, he⟩, hv⟩ := hv
  obtain ⟨d2, mc2, ms2, Q, hM, hd9, hc9, hs9, hv, hx⟩ := hv
  refine aw_callV (rest := [.int y606]) hM he rfl rfl nX6_textError q2227 q2228 q2229 q137 q2230 dL_law_1940 rfl hd9 (by decide) (Nat.le_of_ble_eq_true rfl) hc9 hs9 ?_ ?_
  rotate_left
  · exact fun E h2 q => aX_out (hx E h2 q) rfl hc9 hs9
  intro v9 h611 hq
  have hv := hv v9 h611 hq
  obtain ⟨y610, rfl, hv⟩ := hv
  refine aw_eqv (pc2 := 1943) (st2 := [.int y610, .int y606]) rfl rfl rfl rfl ?_
  revert hv hc9 hs9; generalize c608 + mc2 = c612; generalize s609 + ms2 = s613; intro hc9 hs9 hv
  refine aw_icmp_eq 2161 dL_law_1943 (by decide) (fun c614 => ?_) (fun c614 => ?_)
  · have hv := hv.1 c614
    exact hv hc9 hs9
  · have hv := hv.2 c614
    refine aw_iconst (v := 0) dL_law_1946 (by decide) ?_
    exact aw_zret rfl rfl dL_law_1947 hv hc9 hs9
def V_L_law_1948 (l : Launch) (G : aG) (d mc ms : Nat) (P : aR → aH → Prop) (x1 : Nat) (x2 : Nat) (x3 : Nat) (x4 : Int32) (h : aH) (c s : Nat) : Prop :=
  vC l G mX0_runText (wsX mX0_runText) d mc ms [.ref x1, .ref x3] h c s (xP P) (kI fun y615 h616 c617 s618 => 
  vIs h616 x2 0 (
  vC l G mX6_runText (wsN mX6_runText) d mc ms [.ref x2] h616 c617 s618 (xP P) (kI fun y619 h620 c621 s622 => 
  vIs h620 x2 0 (
  vC l G mX6_thrown (wsN mX6_thrown) d mc ms [.ref x2] h620 c621 s622 (xP P) (kI fun y623 h624 c625 s626 => 
  (y623 = y615 → 
    (¬ y615 = 0 → 
      T_L_law_2161 l G d mc ms P x1 x2 x3 x4 h624 c625 s626
      ) ∧ (y615 = 0 → 
      vAL h624 x3 (0 : Int32) fun y629 =>
      ((lg_cmp y629 y619.toInt64) = 0 → 
        T_L_law_2161 l G d mc ms P x1 x2 x3 x4 h624 c625 s626
        ) ∧ (¬ (lg_cmp y629 y619.toInt64) = 0 → 
        P (.inl (some (.int 0))) h624
        )
      )
    ) ∧ (¬ y623 = y615 → 
    P (.inl (some (.int 0))) h624
    ))))))
set_option maxHeartbeats 4000000 in
theorem A_L_law_1948 {l : Launch} {G : aG} {d mc ms : Nat} {P : aR → aH → Prop} {x1 : Nat} {x2 : Nat} {x3 : Nat} {x4 : Int32} {h : aH} {c s : Nat} (hl : l.stackTraces = false) (hv : V_L_law_1948 l G d mc ms P x1 x2 x3 x4 h c s) : T_L_law_1948 l G d mc ms P x1 x2 x3 x4 h c s := by
  intro hc hs
  unfold V_L_law_1948 at hv
  refine aw_aload_n 1 (x := x1) dL_law_1948 rfl rfl ?_
  refine aw_aload_n 3 (x := x3) dL_law_1949 rfl rfl ?_
  obtain ⟨d2, mc2, ms2, Q, hM, hd9, hc9, hs9, hv, hx⟩ := hv
  refine aw_callSW (rest := []) hM nX0_runText q1672 q1673 q118 q1674 dL_law_1950 rfl hd9 (by decide) (Nat.le_of_ble_eq_true rfl) hc9 hs9 ?_ ?_
  rotate_left
  · exact fun E h2 q => aX_out (hx E h2 q) rfl hc9 hs9
  intro v9 h616 hq
  have hv := hv v9 h616 hq
  obtain ⟨y615, rfl, hv⟩ := hv
  refine aw_eqv (pc2 := 1953) (st2 := [.int y615]) rfl rfl rfl rfl ?_
  revert hv hc9 hs9; generalize c + mc2 = c617; generalize s + ms2 = s618; intro hc9 hs9 hv
  refine aw_istore (lv' := [(5, .int y615), (0, .ref G.2.2.1), (1, .ref x1), (2, .ref x2), (3, .ref x3), (4, .int x4)]) dL_law_1953 (Nat.le_of_ble_eq_true rfl) rfl ?_
  refine aw_aload_n 3 (x := x2) dL_law_1955 rfl rfl ?_
  obtain ⟨⟨fs, he⟩, hv⟩ := hv
  obtain ⟨d2, mc2, ms2, Q, hM, hd9, hc9, hs9, hv, hx⟩ := hv
  refine aw_callV (rest := []) hM he rfl rfl nX6_runText q2259 q2260 q2261 q137 q2262 dL_law_1956 rfl hd9 (by decide) (Nat.le_of_ble_eq_true rfl) hc9 hs9 ?_ ?_
  rotate_left
  · exact fun E h2 q => aX_out (hx E h2 q) rfl hc9 hs9
  intro v9 h620 hq
  have hv := hv v9 h620 hq
  obtain ⟨y619, rfl, hv⟩ := hv
  refine aw_eqv (pc2 := 1959) (st2 := [.int y619]) rfl rfl rfl rfl ?_
  revert hv hc9 hs9; generalize c617 + mc2 = c621; generalize s618 + ms2 = s622; intro hc9 hs9 hv
  refine aw_istore (lv' := [(6, .int y619), (5, .int y615), (0, .ref G.2.2.1), (1, .ref x1), (2, .ref x2), (3, .ref x3), (4, .int x4)]) dL_law_1959 (Nat.le_of_ble_eq_true rfl) rfl ?_
  refine aw_aload_n 4 (x := x2) dL_law_1961 rfl rfl ?_
  obtain ⟨⟨fs, he⟩, hv⟩ := hv
  obtain ⟨d2, mc2, ms2, Q, hM, hd9, hc9, hs9, hv, hx⟩ := hv
  refine aw_callV (rest := []) hM he rfl rfl nX6_thrown q1814 q1815 q1816 q137 q1817 dL_law_1962 rfl hd9 (by decide) (Nat.le_of_ble_eq_true rfl) hc9 hs9 ?_ ?_
  rotate_left
  · exact fun E h2 q => aX_out (hx E h2 q) rfl hc9 hs9
  intro v9 h624 hq
  have hv := hv v9 h624 hq
  obtain ⟨y623, rfl, hv⟩ := hv
  refine aw_eqv (pc2 := 1965) (st2 := [.int y623]) rfl rfl rfl rfl ?_
  revert hv hc9 hs9; generalize c621 + mc2 = c625; generalize s622 + ms2 = s626; intro hc9 hs9 hv
  refine aw_iload 1 dL_law_1965 rfl ?_
  refine aw_icmp_eq 1972 dL_law_1967 (by decide) (fun c627 => ?_) (fun c627 => ?_)
  · have hv := hv.1 c627
    refine aw_iload 1 dL_law_1972 rfl ?_
    refine aw_if_ne 1989 dL_law_1974 (by decide) (fun c628 => ?_) (fun c628 => ?_)
    · have hv := hv.1 c628
      refine aw_goto 2161 dL_law_1989 (by decide) ?_
      refine aw_sub [2, 3, 4, 5, 6] rfl ?_
      exact hv hc9 hs9
    · have hv := hv.2 c628
      refine aw_aload_n 5 (x := x3) dL_law_1977 rfl rfl ?_
      refine aw_iconst (v := 0) dL_law_1978 (by decide) ?_
      obtain ⟨n9, f9, he, hin, hv⟩ := hv
      refine aw_lald he hin dL_law_1979 ?_
      revert hv; generalize f9 ((0 : Int32)).toNatClampNeg = y629; intro hv
      refine aw_iload 0 dL_law_1980 rfl ?_
      refine aw_i2l dL_law_1982 ?_
      refine aw_lcmp dL_law_1983 ?_
      refine aw_if_eq 1989 dL_law_1984 (by decide) (fun c630 => ?_) (fun c630 => ?_)
      · have hv := hv.1 c630
        refine aw_goto 2161 dL_law_1989 (by decide) ?_
        refine aw_sub [2, 3, 4, 5, 6] rfl ?_
        exact hv hc9 hs9
      · have hv := hv.2 c630
        refine aw_iconst (v := 0) dL_law_1987 (by decide) ?_
        exact aw_zret rfl rfl dL_law_1988 hv hc9 hs9
  · have hv := hv.2 c627
    refine aw_iconst (v := 0) dL_law_1970 (by decide) ?_
    exact aw_zret rfl rfl dL_law_1971 hv hc9 hs9
def V_L_law_1992 (l : Launch) (G : aG) (d mc ms : Nat) (P : aR → aH → Prop) (x1 : Nat) (x2 : Nat) (x3 : Nat) (x4 : Int32) (h : aH) (c s : Nat) : Prop :=
  vC l G mX0_undo (wsX mX0_undo) d mc ms [.ref x1, .ref x3] h c s (xP P) (kI fun y631 h632 c633 s634 => 
  vIs h632 x2 0 (
  vC l G mX6_undo (wsN mX6_undo) d mc ms [.ref x2] h632 c633 s634 (xP P) (kI fun y635 h636 c637 s638 => 
  vIs h636 x2 0 (
  vC l G mX6_thrown (wsN mX6_thrown) d mc ms [.ref x2] h636 c637 s638 (xP P) (kI fun y639 h640 c641 s642 => 
  (y639 = y631 → 
    (¬ y631 = 0 → 
      T_L_law_2161 l G d mc ms P x1 x2 x3 x4 h640 c641 s642
      ) ∧ (y631 = 0 → 
      vAL h640 x3 (0 : Int32) fun y645 =>
      ((lg_cmp y645 y635.toInt64) = 0 → 
        T_L_law_2161 l G d mc ms P x1 x2 x3 x4 h640 c641 s642
        ) ∧ (¬ (lg_cmp y645 y635.toInt64) = 0 → 
        P (.inl (some (.int 0))) h640
        )
      )
    ) ∧ (¬ y639 = y631 → 
    P (.inl (some (.int 0))) h640
    ))))))
set_option maxHeartbeats 4000000 in
theorem A_L_law_1992 {l : Launch} {G : aG} {d mc ms : Nat} {P : aR → aH → Prop} {x1 : Nat} {x2 : Nat} {x3 : Nat} {x4 : Int32} {h : aH} {c s : Nat} (hl : l.stackTraces = false) (hv : V_L_law_1992 l G d mc ms P x1 x2 x3 x4 h c s) : T_L_law_1992 l G d mc ms P x1 x2 x3 x4 h c s := by
  intro hc hs
  unfold V_L_law_1992 at hv
  refine aw_aload_n 1 (x := x1) dL_law_1992 rfl rfl ?_
  refine aw_aload_n 3 (x := x3) dL_law_1993 rfl rfl ?_
  obtain ⟨d2, mc2, ms2, Q, hM, hd9, hc9, hs9, hv, hx⟩ := hv
  refine aw_callSW (rest := []) hM nX0_undo q1690 q1691 q118 q1692 dL_law_1994 rfl hd9 (by decide) (Nat.le_of_ble_eq_true rfl) hc9 hs9 ?_ ?_
  rotate_left
  · exact fun E h2 q => aX_out (hx E h2 q) rfl hc9 hs9
  intro v9 h632 hq
  have hv := hv v9 h632 hq
  obtain ⟨y631, rfl, hv⟩ := hv
  refine aw_eqv (pc2 := 1997) (st2 := [.int y631]) rfl rfl rfl rfl ?_
  revert hv hc9 hs9; generalize c + mc2 = c633; generalize s + ms2 = s634; intro hc9 hs9 hv
  refine aw_istore (lv' := [(5, .int y631), (0, .ref G.2.2.1), (1, .ref x1), (2, .ref x2), (3, .ref x3), (4, .int x4)]) dL_law_1997 (Nat.le_of_ble_eq_true rfl) rfl ?_
  refine aw_aload_n 3 (x := x2) dL_law_1999 rfl rfl ?_
  obtain ⟨⟨fs, he⟩, hv⟩ := hv
  obtain ⟨d2, mc2, ms2, Q, hM, hd9, hc9, hs9, hv, hx⟩ := hv
  refine aw_callV (rest := []) hM he rfl rfl nX6_undo q2275 q2276 q2277 q137 q2278 dL_law_2000 rfl hd9 (by decide) (Nat.le_of_ble_eq_true rfl) hc9 hs9 ?_ ?_
  rotate_left
  · exact fun E h2 q => aX_out (hx E h2 q) rfl hc9 hs9
  intro v9 h636 hq
  have hv := hv v9 h636 hq
  obtain ⟨y635, rfl, hv⟩ := hv
  refine aw_eqv (pc2 := 2003) (st2 := [.int y635]) rfl rfl rfl rfl ?_
  revert hv hc9 hs9; generalize c633 + mc2 = c637; generalize s634 + ms2 = s638; intro hc9 hs9 hv
  refine aw_istore (lv' := [(6, .int y635), (5, .int y631), (0, .ref G.2.2.1), (1, .ref x1), (2, .ref x2), (3, .ref x3), (4, .int x4)]) dL_law_2003 (Nat.le_of_ble_eq_true rfl) rfl ?_
  refine aw_aload_n 4 (x := x2) dL_law_2005 rfl rfl ?_
  obtain ⟨⟨fs, he⟩, hv⟩ := hv
  obtain ⟨d2, mc2, ms2, Q, hM, hd9, hc9, hs9, hv, hx⟩ := hv
  refine aw_callV (rest := []) hM he rfl rfl nX6_thrown q1814 q1815 q1816 q137 q1817 dL_law_2006 rfl hd9 (by decide) (Nat.le_of_ble_eq_true rfl) hc9 hs9 ?_ ?_
  rotate_left
  · exact fun E h2 q => aX_out (hx E h2 q) rfl hc9 hs9
  intro v9 h640 hq
  have hv := hv v9 h640 hq
  obtain ⟨y639, rfl, hv⟩ := hv
  refine aw_eqv (pc2 := 2009) (st2 := [.int y639]) rfl rfl rfl rfl ?_
  revert hv hc9 hs9; generalize c637 + mc2 = c641; generalize s638 + ms2 = s642; intro hc9 hs9 hv
  refine aw_iload 1 dL_law_2009 rfl ?_
  refine aw_icmp_eq 2016 dL_law_2011 (by decide) (fun c643 => ?_) (fun c643 => ?_)
  · have hv := hv.1 c643
    refine aw_iload 1 dL_law_2016 rfl ?_
    refine aw_if_ne 2033 dL_law_2018 (by decide) (fun c644 => ?_) (fun c644 => ?_)
    · have hv := hv.1 c644
      refine aw_goto 2161 dL_law_2033 (by decide) ?_
      refine aw_sub [2, 3, 4, 5, 6] rfl ?_
      exact hv hc9 hs9
    · have hv := hv.2 c644
      refine aw_aload_n 5 (x := x3) dL_law_2021 rfl rfl ?_
      refine aw_iconst (v := 0) dL_law_2022 (by decide) ?_
      obtain ⟨n9, f9, he, hin, hv⟩ := hv
      refine aw_lald he hin dL_law_2023 ?_
      revert hv; generalize f9 ((0 : Int32)).toNatClampNeg = y645; intro hv
      refine aw_iload 0 dL_law_2024 rfl ?_
      refine aw_i2l dL_law_2026 ?_
      refine aw_lcmp dL_law_2027 ?_
      refine aw_if_eq 2033 dL_law_2028 (by decide) (fun c646 => ?_) (fun c646 => ?_)
      · have hv := hv.1 c646
        refine aw_goto 2161 dL_law_2033 (by decide) ?_
        refine aw_sub [2, 3, 4, 5, 6] rfl ?_
        exact hv hc9 hs9
      · have hv := hv.2 c646
        refine aw_iconst (v := 0) dL_law_2031 (by decide) ?_
        exact aw_zret rfl rfl dL_law_2032 hv hc9 hs9
  · have hv := hv.2 c643
    refine aw_iconst (v := 0) dL_law_2014 (by decide) ?_
    exact aw_zret rfl rfl dL_law_2015 hv hc9 hs9
def V_L_law_2036 (l : Launch) (G : aG) (d mc ms : Nat) (P : aR → aH → Prop) (x1 : Nat) (x2 : Nat) (x3 : Nat) (x4 : Int32) (h : aH) (c s : Nat) : Prop :=
  vIs h x1 1 (
  vC l G mX1_undoCount (wsN mX1_undoCount) d mc ms [.ref x1] h c s (xP P) (kI fun y647 h648 c649 s650 => 
  vIs h648 x2 0 (
  vC l G mX6_undoCount (wsN mX6_undoCount) d mc ms [.ref x2] h648 c649 s650 (xP P) (kI fun y651 h652 c653 s654 => 
  (y647 = y651 → 
    T_L_law_2161 l G d mc ms P x1 x2 x3 x4 h652 c653 s654
    ) ∧ (¬ y647 = y651 → 
    P (.inl (some (.int 0))) h652
    )))))
set_option maxHeartbeats 4000000 in
theorem A_L_law_2036 {l : Launch} {G : aG} {d mc ms : Nat} {P : aR → aH → Prop} {x1 : Nat} {x2 : Nat} {x3 : Nat} {x4 : Int32} {h : aH} {c s : Nat} (hl : l.stackTraces = false) (hv : V_L_law_2036 l G d mc ms P x1 x2 x3 x4 h c s) : T_L_law_2036 l G d mc ms P x1 x2 x3 x4 h c s := by
  intro hc hs
  unfold V_L_law_2036 at hv
  refine aw_aload_n 1 (x := x1) dL_law_2036 rfl rfl ?_
  obtain ⟨⟨fs, he⟩, hv⟩ := hv
  obtain ⟨d2, mc2, ms2, Q, hM, hd9, hc9, hs9, hv, hx⟩ := hv
  refine aw_callV (rest := []) hM he rfl rfl nX1_undoCount q1326 q1327 q1328 q119 q1329 dL_law_2037 rfl hd9 (by decide) (Nat.le_of_ble_eq_true rfl) hc9 hs9 ?_ ?_
  rotate_left
  · exact fun E h2 q => aX_out (hx E h2 q) rfl hc9 hs9
  intro v9 h648 hq
  have hv := hv v9 h648 hq
  obtain ⟨y647, rfl, hv⟩ := hv
  refine aw_eqv (pc2 := 2040) (st2 := [.int y647]) rfl rfl rfl rfl ?_
  revert hv hc9 hs9; generalize c + mc2 = c649; generalize s + ms2 = s650; intro hc9 hs9 hv
  refine aw_aload_n 2 (x := x2) dL_law_2040 rfl rfl ?_
  obtain ⟨⟨fs, he⟩, hv⟩ := hv
  obtain ⟨d2, mc2, ms2, Q, hM, hd9, hc9, hs9, hv, hx⟩ := hv
  refine aw_callV (rest := [.int y647]) hM he rfl rfl nX6_undoCount q2279 q2280 q2281 q137 q2282 dL_law_2041 rfl hd9 (by decide) (Nat.le_of_ble_eq_true rfl) hc9 hs9 ?_ ?_
  rotate_left
  · exact fun E h2 q => aX_out (hx E h2 q) rfl hc9 hs9
  intro v9 h652 hq
  have hv := hv v9 h652 hq
  obtain ⟨y651, rfl, hv⟩ := hv
  refine aw_eqv (pc2 := 2044) (st2 := [.int y651, .int y647]) rfl rfl rfl rfl ?_
  revert hv hc9 hs9; generalize c649 + mc2 = c653; generalize s650 + ms2 = s654; intro hc9 hs9 hv
  refine aw_icmp_eq 2161 dL_law_2044 (by decide) (fun c655 => ?_) (fun c655 => ?_)
  · have hv := hv.1 c655
    exact hv hc9 hs9
  · have hv := hv.2 c655
    refine aw_iconst (v := 0) dL_law_2047 (by decide) ?_
    exact aw_zret rfl rfl dL_law_2048 hv hc9 hs9
def V_L_law_2049 (l : Launch) (G : aG) (d mc ms : Nat) (P : aR → aH → Prop) (x1 : Nat) (x2 : Nat) (x3 : Nat) (x4 : Int32) (h : aH) (c s : Nat) : Prop :=
  vp_in (x4 + (1 : Int32)) G.2.2.2.1 ∧
  vC l G mX0_saveState (wsX mX0_saveState) d mc ms [.ref x1, .int (G.2.2.2.2 (x4 + (1 : Int32)).toNatClampNeg), .ref x3] h c s (xP P) (kI fun y657 h658 c659 s660 => 
  vp_in (x4 + (1 : Int32)) G.2.2.2.1 ∧
  vIs h658 x2 0 (
  vC l G mX6_saveState (wsN mX6_saveState) d mc ms [.ref x2, .int (G.2.2.2.2 (x4 + (1 : Int32)).toNatClampNeg)] h658 c659 s660 (xP P) (kI fun y662 h663 c664 s665 => 
  vIs h663 x2 0 (
  vC l G mX6_thrown (wsN mX6_thrown) d mc ms [.ref x2] h663 c664 s665 (xP P) (kI fun y666 h667 c668 s669 => 
  (y666 = y657 → 
    (¬ y657 = 0 → 
      T_L_law_2161 l G d mc ms P x1 x2 x3 x4 h667 c668 s669
      ) ∧ (y657 = 0 → 
      vAL h667 x3 (0 : Int32) fun y672 =>
      ((lg_cmp y672 y662.toInt64) = 0 → 
        T_L_law_2161 l G d mc ms P x1 x2 x3 x4 h667 c668 s669
        ) ∧ (¬ (lg_cmp y672 y662.toInt64) = 0 → 
        P (.inl (some (.int 0))) h667
        )
      )
    ) ∧ (¬ y666 = y657 → 
    P (.inl (some (.int 0))) h667
    ))))))
set_option maxHeartbeats 4000000 in
theorem A_L_law_2049 {l : Launch} {G : aG} {d mc ms : Nat} {P : aR → aH → Prop} {x1 : Nat} {x2 : Nat} {x3 : Nat} {x4 : Int32} {h : aH} {c s : Nat} (hl : l.stackTraces = false) (hv : V_L_law_2049 l G d mc ms P x1 x2 x3 x4 h c s) : T_L_law_2049 l G d mc ms P x1 x2 x3 x4 h c s := by
  intro hc hs
  unfold V_L_law_2049 at hv
  refine aw_aload_n 1 (x := x1) dL_law_2049 rfl rfl ?_
  refine aw_aload_n 0 (x := G.2.2.1) dL_law_2050 rfl rfl ?_
  refine aw_iload 4 dL_law_2051 rfl ?_
  refine aw_iconst (v := 1) dL_law_2053 (by decide) ?_
  refine aw_iadd dL_law_2054 ?_
  obtain ⟨z656, hv⟩ := hv
  refine aw_sld z656 dL_law_2055 ?_
  refine aw_aload_n 3 (x := x3) dL_law_2056 rfl rfl ?_
  obtain ⟨d2, mc2, ms2, Q, hM, hd9, hc9, hs9, hv, hx⟩ := hv
  refine aw_callSW (rest := []) hM nX0_saveState q1707 q1708 q118 q1709 dL_law_2057 rfl hd9 (by decide) (Nat.le_of_ble_eq_true rfl) hc9 hs9 ?_ ?_
  rotate_left
  · exact fun E h2 q => aX_out (hx E h2 q) rfl hc9 hs9
  intro v9 h658 hq
  have hv := hv v9 h658 hq
  obtain ⟨y657, rfl, hv⟩ := hv
  refine aw_eqv (pc2 := 2060) (st2 := [.int y657]) rfl rfl rfl rfl ?_
  revert hv hc9 hs9; generalize c + mc2 = c659; generalize s + ms2 = s660; intro hc9 hs9 hv
  refine aw_istore (lv' := [(5, .int y657), (0, .ref G.2.2.1), (1, .ref x1), (2, .ref x2), (3, .ref x3), (4, .int x4)]) dL_law_2060 (Nat.le_of_ble_eq_true rfl) rfl ?_
  refine aw_aload_n 3 (x := x2) dL_law_2062 rfl rfl ?_
  refine aw_aload_n 1 (x := G.2.2.1) dL_law_2063 rfl rfl ?_
  refine aw_iload 5 dL_law_2064 rfl ?_
  refine aw_iconst (v := 1) dL_law_2066 (by decide) ?_
  refine aw_iadd dL_law_2067 ?_
  obtain ⟨z661, hv⟩ := hv
  refine aw_sld z661 dL_law_2068 ?_
  obtain ⟨⟨fs, he⟩, hv⟩ := hv
  obtain ⟨d2, mc2, ms2, Q, hM, hd9, hc9, hs9, hv, hx⟩ := hv
  refine aw_callV (rest := []) hM he rfl rfl nX6_saveState q2283 q2284 q2285 q137 q2286 dL_law_2069 rfl hd9 (by decide) (Nat.le_of_ble_eq_true rfl) hc9 hs9 ?_ ?_
  rotate_left
  · exact fun E h2 q => aX_out (hx E h2 q) rfl hc9 hs9
  intro v9 h663 hq
  have hv := hv v9 h663 hq
  obtain ⟨y662, rfl, hv⟩ := hv
  refine aw_eqv (pc2 := 2072) (st2 := [.int y662]) rfl rfl rfl rfl ?_
  revert hv hc9 hs9; generalize c659 + mc2 = c664; generalize s660 + ms2 = s665; intro hc9 hs9 hv
  refine aw_istore (lv' := [(6, .int y662), (5, .int y657), (0, .ref G.2.2.1), (1, .ref x1), (2, .ref x2), (3, .ref x3), (4, .int x4)]) dL_law_2072 (Nat.le_of_ble_eq_true rfl) rfl ?_
  refine aw_aload_n 4 (x := x2) dL_law_2074 rfl rfl ?_
  obtain ⟨⟨fs, he⟩, hv⟩ := hv
  obtain ⟨d2, mc2, ms2, Q, hM, hd9, hc9, hs9, hv, hx⟩ := hv
  refine aw_callV (rest := []) hM he rfl rfl nX6_thrown q1814 q1815 q1816 q137 q1817 dL_law_2075 rfl hd9 (by decide) (Nat.le_of_ble_eq_true rfl) hc9 hs9 ?_ ?_
  rotate_left
  · exact fun E h2 q => aX_out (hx E h2 q) rfl hc9 hs9
  intro v9 h667 hq
  have hv := hv v9 h667 hq
  obtain ⟨y666, rfl, hv⟩ := hv
  refine aw_eqv (pc2 := 2078) (st2 := [.int y666]) rfl rfl rfl rfl ?_
  revert hv hc9 hs9; generalize c664 + mc2 = c668; generalize s665 + ms2 = s669; intro hc9 hs9 hv
  refine aw_iload 1 dL_law_2078 rfl ?_
  refine aw_icmp_eq 2085 dL_law_2080 (by decide) (fun c670 => ?_) (fun c670 => ?_)
  · have hv := hv.1 c670
    refine aw_iload 1 dL_law_2085 rfl ?_
    refine aw_if_ne 2102 dL_law_2087 (by decide) (fun c671 => ?_) (fun c671 => ?_)
    · have hv := hv.1 c671
      refine aw_goto 2161 dL_law_2102 (by decide) ?_
      refine aw_sub [2, 3, 4, 5, 6] rfl ?_
      exact hv hc9 hs9
    · have hv := hv.2 c671
      refine aw_aload_n 5 (x := x3) dL_law_2090 rfl rfl ?_
      refine aw_iconst (v := 0) dL_law_2091 (by decide) ?_
      obtain ⟨n9, f9, he, hin, hv⟩ := hv
      refine aw_lald he hin dL_law_2092 ?_
      revert hv; generalize f9 ((0 : Int32)).toNatClampNeg = y672; intro hv
      refine aw_iload 0 dL_law_2093 rfl ?_
      refine aw_i2l dL_law_2095 ?_
      refine aw_lcmp dL_law_2096 ?_
      refine aw_if_eq 2102 dL_law_2097 (by decide) (fun c673 => ?_) (fun c673 => ?_)
      · have hv := hv.1 c673
        refine aw_goto 2161 dL_law_2102 (by decide) ?_
        refine aw_sub [2, 3, 4, 5, 6] rfl ?_
        exact hv hc9 hs9
      · have hv := hv.2 c673
        refine aw_iconst (v := 0) dL_law_2100 (by decide) ?_
        exact aw_zret rfl rfl dL_law_2101 hv hc9 hs9
  · have hv := hv.2 c670
    refine aw_iconst (v := 0) dL_law_2083 (by decide) ?_
    exact aw_zret rfl rfl dL_law_2084 hv hc9 hs9
def V_L_law_2105 (l : Launch) (G : aG) (d mc ms : Nat) (P : aR → aH → Prop) (x1 : Nat) (x2 : Nat) (x3 : Nat) (x4 : Int32) (h : aH) (c s : Nat) : Prop :=
  vp_in (x4 + (1 : Int32)) G.2.2.2.1 ∧
  vC l G mX0_loadState (wsX mX0_loadState) d mc ms [.ref x1, .int (G.2.2.2.2 (x4 + (1 : Int32)).toNatClampNeg), .ref x3] h c s (xP P) (kI fun y675 h676 c677 s678 => 
  vp_in (x4 + (1 : Int32)) G.2.2.2.1 ∧
  vIs h676 x2 0 (
  vC l G mX6_loadState (wsN mX6_loadState) d mc ms [.ref x2, .int (G.2.2.2.2 (x4 + (1 : Int32)).toNatClampNeg)] h676 c677 s678 (xP P) (kI fun y680 h681 c682 s683 => 
  vIs h681 x2 0 (
  vC l G mX6_thrown (wsN mX6_thrown) d mc ms [.ref x2] h681 c682 s683 (xP P) (kI fun y684 h685 c686 s687 => 
  (y684 = y675 → 
    (¬ y675 = 0 → 
      T_L_law_2161 l G d mc ms P x1 x2 x3 x4 h685 c686 s687
      ) ∧ (y675 = 0 → 
      vAL h685 x3 (0 : Int32) fun y690 =>
      ((lg_cmp y690 y680.toInt64) = 0 → 
        T_L_law_2161 l G d mc ms P x1 x2 x3 x4 h685 c686 s687
        ) ∧ (¬ (lg_cmp y690 y680.toInt64) = 0 → 
        P (.inl (some (.int 0))) h685
        )
      )
    ) ∧ (¬ y684 = y675 → 
    P (.inl (some (.int 0))) h685
    ))))))
set_option maxHeartbeats 4000000 in
theorem A_L_law_2105 {l : Launch} {G : aG} {d mc ms : Nat} {P : aR → aH → Prop} {x1 : Nat} {x2 : Nat} {x3 : Nat} {x4 : Int32} {h : aH} {c s : Nat} (hl : l.stackTraces = false) (hv : V_L_law_2105 l G d mc ms P x1 x2 x3 x4 h c s) : T_L_law_2105 l G d mc ms P x1 x2 x3 x4 h c s := by
  intro hc hs
  unfold V_L_law_2105 at hv
  refine aw_aload_n 1 (x := x1) dL_law_2105 rfl rfl ?_
  refine aw_aload_n 0 (x := G.2.2.1) dL_law_2106 rfl rfl ?_
  refine aw_iload 4 dL_law_2107 rfl ?_
  refine aw_iconst (v := 1) dL_law_2109 (by decide) ?_
  refine aw_iadd dL_law_2110 ?_
  obtain ⟨z674, hv⟩ := hv
  refine aw_sld z674 dL_law_2111 ?_
  refine aw_aload_n 3 (x := x3) dL_law_2112 rfl rfl ?_
  obtain ⟨d2, mc2, ms2, Q, hM, hd9, hc9, hs9, hv, hx⟩ := hv
  refine aw_callSW (rest := []) hM nX0_loadState q1714 q1715 q118 q1716 dL_law_2113 rfl hd9 (by decide) (Nat.le_of_ble_eq_true rfl) hc9 hs9 ?_ ?_
  rotate_left
  · exact fun E h2 q => aX_out (hx E h2 q) rfl hc9 hs9
  intro v9 h676 hq
  have hv := hv v9 h676 hq
  obtain ⟨y675, rfl, hv⟩ := hv
  refine aw_eqv (pc2 := 2116) (st2 := [.int y675]) rfl rfl rfl rfl ?_
  revert hv hc9 hs9; generalize c + mc2 = c677; generalize s + ms2 = s678; intro hc9 hs9 hv
  refine aw_istore (lv' := [(5, .int y675), (0, .ref G.2.2.1), (1, .ref x1), (2, .ref x2), (3, .ref x3), (4, .int x4)]) dL_law_2116 (Nat.le_of_ble_eq_true rfl) rfl ?_
  refine aw_aload_n 3 (x := x2) dL_law_2118 rfl rfl ?_
  refine aw_aload_n 1 (x := G.2.2.1) dL_law_2119 rfl rfl ?_
  refine aw_iload 5 dL_law_2120 rfl ?_
  refine aw_iconst (v := 1) dL_law_2122 (by decide) ?_
  refine aw_iadd dL_law_2123 ?_
  obtain ⟨z679, hv⟩ := hv
  refine aw_sld z679 dL_law_2124 ?_
  obtain ⟨⟨fs, he⟩, hv⟩ := hv
  obtain ⟨d2, mc2, ms2, Q, hM, hd9, hc9, hs9, hv, hx⟩ := hv
  refine aw_callV (rest := []) hM he rfl rfl nX6_loadState q2290 q2291 q2292 q137 q2293 dL_law_2125 rfl hd9 (by decide) (Nat.le_of_ble_eq_true rfl) hc9 hs9 ?_ ?_
  rotate_left
  · exact fun E h2 q => aX_out (hx E h2 q) rfl hc9 hs9
  intro v9 h681 hq
  have hv := hv v9 h681 hq
  obtain ⟨y680, rfl, hv⟩ := hv
  refine aw_eqv (pc2 := 2128) (st2 := [.int y680]) rfl rfl rfl rfl ?_
  revert hv hc9 hs9; generalize c677 + mc2 = c682; generalize s678 + ms2 = s683; intro hc9 hs9 hv
  refine aw_istore (lv' := [(6, .int y680), (5, .int y675), (0, .ref G.2.2.1), (1, .ref x1), (2, .ref x2), (3, .ref x3), (4, .int x4)]) dL_law_2128 (Nat.le_of_ble_eq_true rfl) rfl ?_
  refine aw_aload_n 4 (x := x2) dL_law_2130 rfl rfl ?_
  obtain ⟨⟨fs, he⟩, hv⟩ := hv
  obtain ⟨d2, mc2, ms2, Q, hM, hd9, hc9, hs9, hv, hx⟩ := hv
  refine aw_callV (rest := []) hM he rfl rfl nX6_thrown q1814 q1815 q1816 q137 q1817 dL_law_2131 rfl hd9 (by decide) (Nat.le_of_ble_eq_true rfl) hc9 hs9 ?_ ?_
  rotate_left
  · exact fun E h2 q => aX_out (hx E h2 q) rfl hc9 hs9
  intro v9 h685 hq
  have hv := hv v9 h685 hq
  obtain ⟨y684, rfl, hv⟩ := hv
  refine aw_eqv (pc2 := 2134) (st2 := [.int y684]) rfl rfl rfl rfl ?_
  revert hv hc9 hs9; generalize c682 + mc2 = c686; generalize s683 + ms2 = s687; intro hc9 hs9 hv
  refine aw_iload 1 dL_law_2134 rfl ?_
  refine aw_icmp_eq 2141 dL_law_2136 (by decide) (fun c688 => ?_) (fun c688 => ?_)
  · have hv := hv.1 c688
    refine aw_iload 1 dL_law_2141 rfl ?_
    refine aw_if_ne 2158 dL_law_2143 (by decide) (fun c689 => ?_) (fun c689 => ?_)
    · have hv := hv.1 c689
      refine aw_goto 2161 dL_law_2158 (by decide) ?_
      refine aw_sub [2, 3, 4, 5, 6] rfl ?_
      exact hv hc9 hs9
    · have hv := hv.2 c689
      refine aw_aload_n 5 (x := x3) dL_law_2146 rfl rfl ?_
      refine aw_iconst (v := 0) dL_law_2147 (by decide) ?_
      obtain ⟨n9, f9, he, hin, hv⟩ := hv
      refine aw_lald he hin dL_law_2148 ?_
      revert hv; generalize f9 ((0 : Int32)).toNatClampNeg = y690; intro hv
      refine aw_iload 0 dL_law_2149 rfl ?_
      refine aw_i2l dL_law_2151 ?_
      refine aw_lcmp dL_law_2152 ?_
      refine aw_if_eq 2158 dL_law_2153 (by decide) (fun c691 => ?_) (fun c691 => ?_)
      · have hv := hv.1 c691
        refine aw_goto 2161 dL_law_2158 (by decide) ?_
        refine aw_sub [2, 3, 4, 5, 6] rfl ?_
        exact hv hc9 hs9
      · have hv := hv.2 c691
        refine aw_iconst (v := 0) dL_law_2156 (by decide) ?_
        exact aw_zret rfl rfl dL_law_2157 hv hc9 hs9
  · have hv := hv.2 c688
    refine aw_iconst (v := 0) dL_law_2139 (by decide) ?_
    exact aw_zret rfl rfl dL_law_2140 hv hc9 hs9
def V_L_law_2161 (l : Launch) (G : aG) (d mc ms : Nat) (P : aR → aH → Prop) (x1 : Nat) (x2 : Nat) (x3 : Nat) (x4 : Int32) (h : aH) (c s : Nat) : Prop :=
  T_L_law_23 l G d mc ms P x1 x2 x3 (x4 + 4) h c s
set_option maxHeartbeats 4000000 in
theorem A_L_law_2161 {l : Launch} {G : aG} {d mc ms : Nat} {P : aR → aH → Prop} {x1 : Nat} {x2 : Nat} {x3 : Nat} {x4 : Int32} {h : aH} {c s : Nat} (hl : l.stackTraces = false) (hv : V_L_law_2161 l G d mc ms P x1 x2 x3 x4 h c s) : T_L_law_2161 l G d mc ms P x1 x2 x3 x4 h c s := by
  intro hc hs
  unfold V_L_law_2161 at hv
  refine aw_iinc 4 (v := x4 + 4) (lv' := [(4, .int (x4 + 4)), (0, .ref G.2.2.1), (1, .ref x1), (2, .ref x2), (3, .ref x3)]) dL_law_2161 rfl rfl (Nat.le_of_ble_eq_true rfl) rfl ?_
  refine aw_goto 23 dL_law_2164 (by decide) ?_
  refine aw_sub [1, 2, 3, 4, 0] rfl ?_
  exact hv hc hs
def V_L_law_0 (l : Launch) (G : aG) (d mc ms : Nat) (P : aR → aH → Prop) (h : aH) : Prop :=
  vNew h 1 8 [.null, .null, .null, .null, .null, .null, .null, .null] mc ms 0 0 fun a692 h693 c694 s695 => h a692 = none →
  vC l G mX1_init (wsN mX1_init) d mc ms [.ref a692] h693 c694 s695 (xP P) (kV fun h698 c699 s700 => 
  vNew h698 0 24 [.null, .int 0, .null, .null, .int 0, .int 0, .int 0, .int 0, .int 0, .int 0, .int 0, .int 0, .int 0, .null, .null, .null, .null, .null, .null, .null, .null, .long 0, .null, .null] mc ms c699 s700 fun a701 h702 c703 s704 => h698 a701 = none →
  vC l G mX6_init (wsN mX6_init) d mc ms [.ref a701] h702 c703 s704 (xP P) (kV fun h707 c708 s709 => 
  vNewL h707 (1 : Int32) mc ms c708 s709 fun a710 h711 c712 s713 => h707 a710 = none →
  T_L_law_23 l G d mc ms P a692 a701 a710 0 h711 c712 s713))
set_option maxHeartbeats 4000000 in
theorem A_L_law {l : Launch} {G : aG} {d mc ms : Nat} {P : aR → aH → Prop} {h : aH} (hl : l.stackTraces = false) (hv : V_L_law_0 l G d mc ms P h) : aC l G mL_law (wsN mL_law) d mc ms [.ref G.2.2.1] h P := by
  refine aC_ofF (M := mL_law) rfl pL_law (Nat.le_of_ble_eq_true rfl) hl ?_
  refine aw_eqv (lv2 := [(0, .ref G.2.2.1)]) rfl rfl rfl rfl ?_
  unfold V_L_law_0 at hv
  obtain ⟨hc9, hs9, hv⟩ := hv
  refine aw_new (N := 8) (fs := [.null, .null, .null, .null, .null, .null, .null, .null]) (rfl : aCl[1]? = _) in_X1 tyX1_ok q153 q154 q119 (by decide) hc9 hs9 dL_law_0 (fun a692 g696 => ?_)
  have hv := hv a692 g696 g696
  refine aw_eqv (pc2 := 3) (st2 := [.ref a692]) rfl rfl rfl rfl ?_
  revert hv hc9 hs9; generalize aUp h a692 (.inr (1, [.null, .null, .null, .null, .null, .null, .null, .null])) = h693; generalize 0 + 1 = c694; generalize 0 + 8 = s695; intro hc9 hs9 hv
  refine aw_dup dL_law_3 rfl ?_
  obtain ⟨d2, mc2, ms2, Q, hM, hd9, hc9, hs9, hv, hx⟩ := hv
  refine aw_callI (rest := [.ref a692]) rfl hM nX1_init rfl q155 q156 q119 q157 dL_law_4 rfl hd9 (by decide) (Nat.le_of_ble_eq_true rfl) hc9 hs9 ?_ ?_
  rotate_left
  · exact fun E h2 q => aX_out (hx E h2 q) rfl hc9 hs9
  intro v9 h698 hq
  have hv := hv v9 h698 hq
  obtain ⟨rfl, hv⟩ := hv
  refine aw_eqv (pc2 := 7) (st2 := [.ref a692]) rfl rfl rfl rfl ?_
  revert hv hc9 hs9; generalize c694 + mc2 = c699; generalize s695 + ms2 = s700; intro hc9 hs9 hv
  refine aw_astore_n (lv' := [(1, .ref a692), (0, .ref G.2.2.1)]) dL_law_7 rfl (Nat.le_of_ble_eq_true rfl) rfl ?_
  obtain ⟨hc9, hs9, hv⟩ := hv
  refine aw_new (N := 24) (fs := [.null, .int 0, .null, .null, .int 0, .int 0, .int 0, .int 0, .int 0, .int 0, .int 0, .int 0, .int 0, .null, .null, .null, .null, .null, .null, .null, .null, .long 0, .null, .null]) (rfl : aCl[0]? = _) in_X6 tyX6_ok q1721 q1722 q137 (by decide) hc9 hs9 dL_law_8 (fun a701 g705 => ?_)
  have hv := hv a701 g705 g705
  refine aw_eqv (pc2 := 11) (st2 := [.ref a701]) rfl rfl rfl rfl ?_
  revert hv hc9 hs9; generalize aUp h698 a701 (.inr (0, [.null, .int 0, .null, .null, .int 0, .int 0, .int 0, .int 0, .int 0, .int 0, .int 0, .int 0, .int 0, .null, .null, .null, .null, .null, .null, .null, .null, .long 0, .null, .null])) = h702; generalize c699 + 1 = c703; generalize s700 + 24 = s704; intro hc9 hs9 hv
  refine aw_dup dL_law_11 rfl ?_
  obtain ⟨d2, mc2, ms2, Q, hM, hd9, hc9, hs9, hv, hx⟩ := hv
  refine aw_callI (rest := [.ref a701]) rfl hM nX6_init rfl q1723 q1724 q137 q1725 dL_law_12 rfl hd9 (by decide) (Nat.le_of_ble_eq_true rfl) hc9 hs9 ?_ ?_
  rotate_left
  · exact fun E h2 q => aX_out (hx E h2 q) rfl hc9 hs9
  intro v9 h707 hq
  have hv := hv v9 h707 hq
  obtain ⟨rfl, hv⟩ := hv
  refine aw_eqv (pc2 := 15) (st2 := [.ref a701]) rfl rfl rfl rfl ?_
  revert hv hc9 hs9; generalize c703 + mc2 = c708; generalize s704 + ms2 = s709; intro hc9 hs9 hv
  refine aw_astore_n (lv' := [(2, .ref a701), (1, .ref a692), (0, .ref G.2.2.1)]) dL_law_15 rfl (Nat.le_of_ble_eq_true rfl) rfl ?_
  refine aw_iconst (v := 1) dL_law_16 (by decide) ?_
  obtain ⟨N9, hn9, hN9, hb9, hc9, hs9, hv⟩ := hv
  refine aw_newa (atype := .long) (ty := .long) (a0 := (N9, .inr (.inl fun _ => 0))) rfl 4 rfl q2295 (fun _ => rfl) hn9 hN9 (by show _ * 8 ≤ _; omega) (fun _ _ h9 => h9) hc9 hs9 dL_law_17 (fun a710 g714 => ?_)
  have hv := hv a710 g714 g714
  refine aw_eqv (pc2 := 19) (st2 := [.ref a710]) rfl rfl rfl rfl ?_
  revert hv hc9 hs9; generalize aUp h707 a710 (.inl (.long, (N9, .inr (.inl fun _ => 0)))) = h711; generalize c708 + 1 = c712; generalize s709 + N9 = s713; intro hc9 hs9 hv
  refine aw_astore_n (lv' := [(3, .ref a710), (2, .ref a701), (1, .ref a692), (0, .ref G.2.2.1)]) dL_law_19 rfl (Nat.le_of_ble_eq_true rfl) rfl ?_
  refine aw_iconst (v := 0) dL_law_20 (by decide) ?_
  refine aw_istore (lv' := [(4, .int 0), (3, .ref a710), (2, .ref a701), (1, .ref a692), (0, .ref G.2.2.1)]) dL_law_21 (Nat.le_of_ble_eq_true rfl) rfl ?_
  refine aw_sub [4, 3, 2, 1, 0] rfl ?_
  exact hv hc9 hs9
